/-! what every later part uses: numbers as ints (zI), cells behind stores, the small steps that simp takes -/
set_option maxRecDepth 100000
theorem zI_bm {n : Int} (h1 : -2 ^ 31 ≤ n) (h2 : n < 2 ^ 31) : n.bmod (2 ^ 32) = n := by
  rw [Int.bmod_def]; omega
theorem zI_toInt {z : Int} (h1 : -2 ^ 31 ≤ z) (h2 : z < 2 ^ 31) : (zI z).toInt = z := by
  unfold zI
  rw [Int32.toInt_ofInt]
  exact zI_bm h1 h2
theorem zI_add (a b : Int) : zI a + zI b = zI (a + b) := (Int32.ofInt_add a b).symm
theorem zI_mul (a b : Int) : zI a * zI b = zI (a * b) := (Int32.ofInt_mul a b).symm
theorem zI_neg (a : Int) : -zI a = zI (-a) := (Int32.ofInt_neg a).symm
theorem zI_sub (a b : Int) : zI a - zI b = zI (a - b) := by
  unfold zI
  rw [Int32.ofInt_sub]
theorem zI_lt {a b : Int} (a1 : -2 ^ 31 ≤ a) (a2 : a < 2 ^ 31) (b1 : -2 ^ 31 ≤ b) (b2 : b < 2 ^ 31) : zI a < zI b ↔ a < b := by
  rw [Int32.lt_iff_toInt_lt, zI_toInt a1 a2, zI_toInt b1 b2]
theorem zI_le {a b : Int} (a1 : -2 ^ 31 ≤ a) (a2 : a < 2 ^ 31) (b1 : -2 ^ 31 ≤ b) (b2 : b < 2 ^ 31) : zI a ≤ zI b ↔ a ≤ b := by
  rw [Int32.le_iff_toInt_le, zI_toInt a1 a2, zI_toInt b1 b2]
theorem zI_eq {a b : Int} (a1 : -2 ^ 31 ≤ a) (a2 : a < 2 ^ 31) (b1 : -2 ^ 31 ≤ b) (b2 : b < 2 ^ 31) : zI a = zI b ↔ a = b := by
  rw [← Int32.toInt_inj, zI_toInt a1 a2, zI_toInt b1 b2]
theorem zI_of (x : Int32) : zI x.toInt = x := by
  unfold zI
  exact Int32.ofInt_toInt x
theorem zI_nat (n : Nat) : zI (n : Int) = nI n := rfl
theorem zI_clamp {z : Int} (h1 : 0 ≤ z) (h2 : z < 2 ^ 31) : (zI z).toNatClampNeg = z.toNat := by
  have h := zI_toInt (z := z) (by omega) h2
  show (zI z).toInt.toNat = z.toNat
  rw [h]
theorem zI_c (n : Nat) (h : n < 2 ^ 31) : (zI (n : Int)).toNatClampNeg = n := by
  rw [zI_clamp (by omega) (by omega)]
  rfl
theorem rg_in_z {z : Int} {n : Nat} (h1 : 0 ≤ z) (h2 : z < n) (h3 : n ≤ 2 ^ 31) : rg_in (zI z) n = true := by
  have h := zI_toInt (z := z) (by omega) (by omega)
  have hc := zI_clamp (z := z) h1 (by omega)
  unfold rg_in
  rw [Bool.and_eq_true, decide_eq_true_eq, decide_eq_true_eq]
  refine ⟨?_, ?_⟩
  · rw [Int32.lt_iff_toInt_lt, h, Int32.toInt_zero]; omega
  · rw [hc]; omega
theorem rg_in_n {i n : Nat} (h2 : i < n) (h3 : n ≤ 2 ^ 31) : rg_in (zI (i : Int)) n = true := rg_in_z (by omega) (by omega) h3
theorem rg_in_i {x : Int32} {n : Nat} (h : rg_in x n = true) : 0 ≤ x.toInt ∧ x.toInt < n := by
  unfold rg_in at h
  rw [Bool.and_eq_true, decide_eq_true_eq, decide_eq_true_eq, Int32.lt_iff_toInt_lt, Int32.toInt_zero] at h
  have e : x.toNatClampNeg = x.toInt.toNat := rfl
  omega
-- ===== cells behind stores =====
section CE
variable {σ : rg_S} {a b q n : Nat} {e e' : rg_E}
theorem h_set : rg_h (rg_set σ a e) q = if q = a then some e else rg_h σ q := Eq.trans rfl rfl
theorem r_set : rg_r (rg_set σ a e) = rg_r σ := Eq.trans rfl rfl
theorem st_set : rg_st (rg_set σ a e) = rg_st σ := Eq.trans rfl rfl
theorem sz_set : rg_sz (rg_set σ a e) = rg_sz σ := Eq.trans rfl rfl
theorem sl_set : rg_sl (rg_set σ a e) = rg_sl σ := Eq.trans rfl rfl
theorem h_new : rg_h (rg_new σ e n) q = if q = rg_sz σ then some e else rg_h σ q := Eq.trans rfl rfl
theorem r_new : rg_r (rg_new σ e n) = rg_r σ := Eq.trans rfl rfl
theorem st_new : rg_st (rg_new σ e n) = rg_st σ := Eq.trans rfl rfl
theorem sz_new : rg_sz (rg_new σ e n) = rg_sz σ + 1 := Eq.trans rfl rfl
theorem sl_new : rg_sl (rg_new σ e n) = rg_sl σ + n := Eq.trans rfl rfl
theorem rd_h (h : rg_h σ q = some e) : rg_rd σ q = some e := by unfold rg_rd; rw [h]
theorem rd_r (h : rg_h σ q = none) : rg_rd σ q = rg_r σ q := by unfold rg_rd; rw [h]
theorem rd_set : rg_rd (rg_set σ a e) q = if q = a then some e else rg_rd σ q := by
  unfold rg_rd
  rw [h_set, r_set]
  by_cases h : q = a
  · rw [if_pos h, if_pos h]
  · rw [if_neg h, if_neg h]
theorem rd_new : rg_rd (rg_new σ e n) q = if q = rg_sz σ then some e else rg_rd σ q := by
  unfold rg_rd
  rw [h_new, r_new]
  by_cases h : q = rg_sz σ
  · rw [if_pos h, if_pos h]
  · rw [if_neg h, if_neg h]
theorem set_set : rg_set (rg_set σ a e) a e' = rg_set σ a e' := by
  unfold rg_set
  refine Prod.ext rfl (Prod.ext ?_ rfl)
  funext q
  by_cases h : q = a <;> simp [rg_h, h]
theorem set_comm (h : a ≠ b) : rg_set (rg_set σ a e) b e' = rg_set (rg_set σ b e') a e := by
  unfold rg_set
  refine Prod.ext rfl (Prod.ext ?_ rfl)
  funext q
  by_cases h1 : q = a
  · subst h1; simp [rg_h, h]
  · by_cases h2 : q = b
    · subst h2; simp [rg_h, h1]
    · simp [rg_h, h1, h2]
theorem set_id (h : rg_h σ a = some e) : rg_set σ a e = σ := by
  unfold rg_set
  refine Prod.ext rfl (Prod.ext ?_ rfl)
  funext q
  by_cases h1 : q = a
  · subst h1; simp only [if_true]; exact h.symm
  · simp [rg_h, h1]
theorem cls_h {c : Nat} {F : Nat → Value} (h : rg_rd σ q = some (.inr (c, F))) : rg_cls σ q = some c := by unfold rg_cls; rw [h]
theorem cls_rd : rg_cls σ q = (match rg_rd σ q with | some (.inr (c, _)) => some c | _ => none) := Eq.trans rfl rfl
end CE
-- ===== the small steps =====
theorem s_gok1 {c j : Nat} {F : Nat → Value} : rg_gok (some (.inr (c, F))) [(c, j)] = true := by simp [rg_gok, rg_lk]
theorem s_fv1 {c j : Nat} {F : Nat → Value} : rg_fv (some (.inr (c, F))) [(c, j)] = F j := by simp [rg_fv, rg_lk]
theorem s_pv1 {c j : Nat} {F : Nat → Value} {v : Value} : rg_pv (some (.inr (c, F))) [(c, j)] v = .inr (c, va_up F j v) := by simp [rg_pv, rg_lk]
theorem s_gok {c : Nat} {F : Nat → Value} {x : List (Nat × Nat)} : rg_gok (some (.inr (c, F))) x = (rg_lk c x).isSome := Eq.trans rfl rfl
theorem s_fv {c : Nat} {F : Nat → Value} {x : List (Nat × Nat)} : rg_fv (some (.inr (c, F))) x = F ((rg_lk c x).getD 0) := Eq.trans rfl rfl
theorem s_pv {c : Nat} {F : Nat → Value} {v : Value} {x : List (Nat × Nat)} : rg_pv (some (.inr (c, F))) x v = .inr (c, va_up F ((rg_lk c x).getD 0) v) := Eq.trans rfl rfl
theorem s_iok {c n : Nat} {f : Nat → Int32} {ks : List Nat} {i : Int32} : rg_iok ks (some (.inl (c, n, .inl f))) i = (ks.contains c && rg_in i n) := Eq.trans rfl rfl
theorem s_iv {c n : Nat} {f : Nat → Int32} {i : Int32} : rg_iv (some (.inl (c, n, .inl f))) i = f i.toNatClampNeg := Eq.trans rfl rfl
theorem s_is {c n : Nat} {f : Nat → Int32} {i x : Int32} : rg_is (some (.inl (c, n, .inl f))) i x = .inl (c, n, .inl (upd f i.toNatClampNeg x)) := Eq.trans rfl rfl
theorem s_jok {n : Nat} {f : Nat → Int64} {i : Int32} : rg_jok (some (.inl (1, n, .inr (.inl f)))) i = rg_in i n := by simp [rg_jok]
theorem s_jv {c n : Nat} {f : Nat → Int64} {i : Int32} : rg_jv (some (.inl (c, n, .inr (.inl f)))) i = f i.toNatClampNeg := Eq.trans rfl rfl
theorem s_js {c n : Nat} {f : Nat → Int64} {i : Int32} {x : Int64} : rg_js1 (some (.inl (c, n, .inr (.inl f)))) i x = .inl (c, n, .inr (.inl (vp_updL f i.toNatClampNeg x))) := Eq.trans rfl rfl
theorem s_qok {c n : Nat} {f : Nat → Option Nat} {i : Int32} : rg_qok (some (.inl (c, n, .inr (.inr (.inr (.inr f)))))) i = ([4, 5, 6].contains c && rg_in i n) := Eq.trans rfl rfl
theorem s_qol {c n : Nat} {f : Nat → Option Nat} {i : Int32} : rg_qol (some (.inl (c, n, .inr (.inr (.inr (.inr f)))))) i = ([4, 5, 6, 7].contains c && rg_in i n) := Eq.trans rfl rfl
theorem s_qv {c n : Nat} {f : Nat → Option Nat} {i : Int32} : rg_qv (some (.inl (c, n, .inr (.inr (.inr (.inr f)))))) i = f i.toNatClampNeg := Eq.trans rfl rfl
theorem s_qs {c n : Nat} {f : Nat → Option Nat} {i : Int32} {b : Option Nat} : rg_qs (some (.inl (c, n, .inr (.inr (.inr (.inr f)))))) i b = .inl (c, n, .inr (.inr (.inr (.inr (va_up f i.toNatClampNeg b))))) := Eq.trans rfl rfl
theorem s_qsok {c n ci : Nat} {f : Nat → Option Nat} {i : Int32} {x : List (Nat × Nat)} : rg_qsok x (some (.inl (c, n, .inr (.inr (.inr (.inr f)))))) (some ci) i = (x.contains (c, ci) && rg_in i n) := Eq.trans rfl rfl
theorem s_alen {c n : Nat} {f} : rg_alen (some (.inl (c, n, f))) = n := Eq.trans rfl rfl
theorem s_isa {k : Nat} {x : vp_A} : rg_isa (some (.inl (k, x))) = !(k == 8) := Eq.trans rfl rfl
theorem s_isr {a : Nat} : rg_isr (.ref a) = true := Eq.trans rfl rfl
theorem s_isn : rg_isr .null = true := Eq.trans rfl rfl
theorem s_isq {o : Option Nat} : rg_isr (va_rf o) = true := by cases o <;> rfl
theorem s_lr {a : Nat} : rg_isl (.ref a) = false := Eq.trans rfl rfl
theorem s_ln : rg_isl .null = false := Eq.trans rfl rfl
theorem s_li {x : Int32} : rg_isl (.int x) = false := Eq.trans rfl rfl
theorem s_lj {x : Int64} : rg_isl (.long x) = true := Eq.trans rfl rfl
theorem s_lq {o : Option Nat} : rg_isl (va_rf o) = false := by cases o <;> rfl
theorem s_g0 : rg_lgo none = false := Eq.trans rfl rfl
theorem s_g {v : Value} : rg_lgo (some v) = rg_isl v := Eq.trans rfl rfl
theorem s_w0 : rg_w [] = 0 := Eq.trans rfl rfl
theorem s_wi {x : Int32} {r : List Value} : rg_w (.int x :: r) = 1 + rg_w r := Eq.trans rfl rfl
theorem s_wr {x : Nat} {r : List Value} : rg_w (.ref x :: r) = 1 + rg_w r := Eq.trans rfl rfl
theorem s_wn {r : List Value} : rg_w (.null :: r) = 1 + rg_w r := Eq.trans rfl rfl
theorem s_wj {x : Int64} {r : List Value} : rg_w (.long x :: r) = 2 + rg_w r := Eq.trans rfl rfl
theorem s_wq {o : Option Nat} {r : List Value} : rg_w (va_rf o :: r) = 1 + rg_w r := by cases o <;> rfl
theorem s_rs {a : Nat} : va_rf (some a) = .ref a := Eq.trans rfl rfl
theorem s_rn : va_rf none = .null := Eq.trans rfl rfl
theorem s_f0 {x : Int32} : rg_fit 0 (.int x) = true := Eq.trans rfl rfl
theorem s_f1 {x : Int64} : rg_fit 1 (.long x) = true := Eq.trans rfl rfl
theorem s_f2 {x : Int32} : rg_fit 2 (.int x) = rg_isb x := Eq.trans rfl rfl
theorem s_f3 {v : Value} : rg_fit 3 v = rg_isr v := Eq.trans rfl rfl
theorem s_b0 : rg_isb (zI 0) = true := by decide
theorem s_b1 : rg_isb (zI 1) = true := by decide
theorem s_rfn {a : Nat} : (Value.ref a = .null) = False := by simp
theorem s_nn : (Value.null = .null) = True := by simp
theorem s_rr {a b : Nat} : (Value.ref a = .ref b) = (a = b) := by simp
theorem s_qn {o : Option Nat} : (va_rf o = .null) = (o = none) := by cases o <;> simp [va_rf]
/-- a truth value as an int -/
def bI (b : Bool) : Int32 := if b then zI 1 else zI 0
theorem bI_t : bI true = zI 1 := Eq.trans rfl rfl
theorem bI_f : bI false = zI 0 := Eq.trans rfl rfl
theorem bI_b {b : Bool} : rg_isb (bI b) = true := by cases b <;> decide
theorem bI_0 {b : Bool} : bI b = zI 0 ↔ b = false := by cases b <;> decide
theorem zI_1_0 : (zI 1 = zI 0) = False := by simp only [eq_iff_iff, iff_false]; decide
theorem zI_0_1 : (zI 0 = zI 1) = False := by simp only [eq_iff_iff, iff_false]; decide
theorem zI_m_0 : (zI (-1) = zI 0) = False := by simp only [eq_iff_iff, iff_false]; decide
/-- all of them, for simp -/
theorem RG : (∀ (b : Bool), rg_isb (bI b) = true) ∧ (rg_isb (zI 0) = true) ∧ (rg_isb (zI 1) = true) := ⟨fun _ => bI_b, s_b0, s_b1⟩
