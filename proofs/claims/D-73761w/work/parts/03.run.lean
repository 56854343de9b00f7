/-! the run of the abstract machine: a step with its calls (rg_F), by fuel (rg_ex), and without fuel (rn); equations of rn, one for each kind of instruction -/
set_option maxRecDepth 100000
def rg_exi (as : List Value) (σ : rg_S) : Option rg_R := match as with
  | [.ref a] => (match rg_h σ a with
    | some (.inr (c, F)) => if (c == 8 || c == 22) && decide (F 3 = .null) then some (.inl (none, rg_set σ a (.inr (c, va_up (va_up (va_up F 0 (.ref a)) 1 (rg_st σ 7)) 2 (rg_st σ 8))))) else none
    | _ => none)
  | _ => none
def rg_cls (σ : rg_S) (q : Nat) : Option Nat := match rg_rd σ q with
  | some (.inr (c, _)) => some c
  | _ => none
/-- the classes of what stands in arrays of Object -/
def rg_obj : List Nat := [4, 3, 16, 13]
def rg_okq (σ : rg_S) (f : Nat → Option Nat) (sp n : Nat) : Bool := (List.range n).all fun i => match f (sp + i) with
  | none => true
  | some y => (match rg_cls σ y with
    | some c => rg_obj.contains c
    | none => false)
def rg_acp (as : List Value) (σ : rg_S) : Option rg_R := match as with
  | [.ref a, .int sp, .ref b, .int dp, .int n] => (match rg_h σ a with
    | some (.inl (k, m, .inr (.inl f))) => (match rg_h σ b with
      | some (.inl (k2, m2, .inr (.inl g))) => if decide (a ≠ b) && k == 1 && k2 == 1 && decide (¬ sp < 0) && decide (¬ dp < 0) && decide (¬ n < 0) && decide (sp.toNatClampNeg + n.toNatClampNeg ≤ m) && decide (dp.toNatClampNeg + n.toNatClampNeg ≤ m2) then some (.inl (none, rg_set σ b (.inl (1, m2, .inr (.inl (va_cpy f g sp.toNatClampNeg dp.toNatClampNeg n.toNatClampNeg)))))) else none
      | _ => none)
    | some (.inl (k, m, .inr (.inr (.inr (.inr f))))) => (match rg_h σ b with
      | some (.inl (k2, m2, .inr (.inr (.inr (.inr g))))) => if decide (a ≠ b) && k == 4 && k2 == 4 && decide (¬ sp < 0) && decide (¬ dp < 0) && decide (¬ n < 0) && decide (sp.toNatClampNeg + n.toNatClampNeg ≤ m) && decide (dp.toNatClampNeg + n.toNatClampNeg ≤ m2) && rg_okq σ f sp.toNatClampNeg n.toNatClampNeg then some (.inl (none, rg_set σ b (.inl (4, m2, .inr (.inr (.inr (.inr (va_cpy f g sp.toNatClampNeg dp.toNatClampNeg n.toNatClampNeg)))))))) else none
      | _ => none)
    | _ => none)
  | _ => none
/-- getClass() of an array of Object: its class's mirror stands among the statics -/
def rg_gcl (as : List Value) (σ : rg_S) : Option rg_R := match as with
  | [.ref a] => (match rg_h σ a with
    | some (.inl (k, _, _)) => if k == 4 then some (.inl (some (rg_st σ 310), σ)) else none
    | _ => none)
  | _ => none
def rg_intr (y : Nat) (as : List Value) (σ : rg_S) : Option rg_R :=
  if y = 505 then rg_exi as σ else if y = 506 then rg_acp as σ else if y = 507 then rg_gcl as σ else none
def rg_hd (pc c : Nat) : List (Nat × Nat × Nat × List Nat) → Option Nat
  | [] => none
  | (a, b, h, cs) :: r => if decide (a ≤ pc) && decide (pc < b) && cs.contains c then some h else rg_hd pc c r
/-- some handler covers the place: an exception that none of them takes by class is not followed (finally parts are never reached so) -/
def rg_cov (pc : Nat) (hs : List (Nat × Nat × Nat × List Nat)) : Bool := hs.any fun z => decide (z.1 ≤ pc) && decide (pc < z.2.1)
abbrev rg_T : Type := Nat → Nat → Nat → rg_L → List Value → rg_S → Option rg_R
/-- a callee: an intrinsic one (with room for its own calls), or one by its code, a frame deeper -/
def rg_cr (f : rg_T) (d y : Nat) (as : List Value) (σ : rg_S) : Option rg_R :=
  if 500 ≤ y then (if 4 ≤ d then rg_intr y as σ else none) else match d with
    | 0 => none
    | d + 1 => if (rg_args as).length ≤ rg_ml y then f d y 0 (rg_pad (rg_ml y) (rg_args as)) [] σ else none
/-- the class of what is thrown: a Fault or a Failed of ours -/
def rg_tc (σ : rg_S) (q : Nat) : Option Nat := match rg_h σ q with
  | some (.inr (c, _)) => if c == 8 || c == 22 then some c else none
  | _ => none
def rg_th (f : rg_T) (d y pc : Nat) (L : rg_L) (q : Nat) (σ : rg_S) : Option rg_R := match rg_tc σ q with
  | none => none
  | some c => match rg_hd pc c (rg_hds y) with
    | some h => f d y h L [.ref q] σ
    | none => if rg_cov pc (rg_hds y) then none else some (.inr (q, σ))
def rg_af (f : rg_T) (d y pc : Nat) (L : rg_L) (npc : Nat) (rest : List Value) : Option rg_R → Option rg_R
  | none => none
  | some (.inl (v, σ)) => f d y npc L (v.toList ++ rest) σ
  | some (.inr (q, σ)) => rg_th f d y pc L q σ
def rg_K (f : rg_T) (d y pc : Nat) (L : rg_L) : Option rg_O → Option rg_R
  | none => none
  | some (.inl (pc', L', st', σ')) => f d y pc' L' st' σ'
  | some (.inr (.inl (y', as, npc, rest, σ'))) => rg_af f d y pc L npc rest (rg_cr f d y' as σ')
  | some (.inr (.inr (.inl (v, σ')))) => some (.inl (v, σ'))
  | some (.inr (.inr (.inr (q, σ')))) => rg_th f d y pc L q σ'
def rg_F (f : rg_T) : rg_T := fun d y pc L st σ => rg_K f d y pc L ((rg_at y pc).bind fun o => rg_do o L st σ)
def rg_ex : Nat → rg_T
  | 0 => fun _ _ _ _ _ _ => none
  | n + 1 => rg_F (rg_ex n)
def rg_le (f g : rg_T) : Prop := ∀ d y pc L st σ r, f d y pc L st σ = some r → g d y pc L st σ = some r
theorem rg_le_rf (f : rg_T) : rg_le f f := fun _ _ _ _ _ _ _ h => h
theorem rg_le_tr {f g k : rg_T} (a : rg_le f g) (b : rg_le g k) : rg_le f k := fun d y pc L st σ r h => b _ _ _ _ _ _ _ (a _ _ _ _ _ _ _ h)
theorem rg_cr_mono {f g : rg_T} (h : rg_le f g) {d y : Nat} {as : List Value} {σ : rg_S} {r : rg_R} (e : rg_cr f d y as σ = some r) : rg_cr g d y as σ = some r := by
  unfold rg_cr at e ⊢
  split
  · rename_i q; rw [if_pos q] at e; exact e
  · rename_i q
    rw [if_neg q] at e
    cases d with
    | zero => exact e
    | succ d =>
      dsimp only at e ⊢
      split
      · rename_i q2; rw [if_pos q2] at e; exact h _ _ _ _ _ _ _ e
      · rename_i q2; rw [if_neg q2] at e; cases e
theorem rg_th_mono {f g : rg_T} (h : rg_le f g) {d y pc : Nat} {L : rg_L} {q : Nat} {σ : rg_S} {r : rg_R} (e : rg_th f d y pc L q σ = some r) : rg_th g d y pc L q σ = some r := by
  unfold rg_th at e ⊢
  cases hc : rg_tc σ q with
  | none => rw [hc] at e; cases e
  | some c =>
    rw [hc] at e
    dsimp only at e ⊢
    cases hh : rg_hd pc c (rg_hds y) with
    | none => rw [hh] at e; exact e
    | some k => rw [hh] at e; exact h _ _ _ _ _ _ _ e
theorem rg_af_mono {f g : rg_T} (h : rg_le f g) {d y pc : Nat} {L : rg_L} {npc : Nat} {rest : List Value} {x : Option rg_R} {r : rg_R} (e : rg_af f d y pc L npc rest x = some r) : rg_af g d y pc L npc rest x = some r := by
  rcases x with _ | ⟨v, σ⟩ | ⟨q, σ⟩
  · cases e
  · exact h _ _ _ _ _ _ _ e
  · exact rg_th_mono h e
theorem rg_K_mono {f g : rg_T} (h : rg_le f g) {d y pc : Nat} {L : rg_L} {x : Option rg_O} {r : rg_R} (e : rg_K f d y pc L x = some r) : rg_K g d y pc L x = some r := by
  rcases x with _ | ⟨pc', L', st', σ'⟩ | ⟨y', as, npc, rest, σ'⟩ | ⟨v, σ'⟩ | ⟨q, σ'⟩
  · cases e
  · exact h _ _ _ _ _ _ _ e
  · have e' : rg_af f d y pc L npc rest (rg_cr f d y' as σ') = some r := e
    show rg_af g d y pc L npc rest (rg_cr g d y' as σ') = some r
    cases hc : rg_cr f d y' as σ' with
    | none => rw [hc] at e'; cases e'
    | some z => rw [rg_cr_mono h hc, ← hc]; exact rg_af_mono h e'
  · exact e
  · exact rg_th_mono h e
theorem rg_F_mono {f g : rg_T} (h : rg_le f g) : rg_le (rg_F f) (rg_F g) := fun d y pc L st σ r e => rg_K_mono h e
theorem rg_ex_up : ∀ n, rg_le (rg_ex n) (rg_ex (n + 1))
  | 0 => fun _ _ _ _ _ _ _ h => by cases h
  | n + 1 => rg_F_mono (rg_ex_up n)
theorem rg_ex_mono {m : Nat} : ∀ {n : Nat}, m ≤ n → rg_le (rg_ex m) (rg_ex n)
  | 0, h => by
    have : m = 0 := by omega
    subst this
    exact rg_le_rf _
  | n + 1, h => by
    rcases Nat.lt_or_ge m (n + 1) with q | q
    · exact rg_le_tr (rg_ex_mono (by omega)) (rg_ex_up n)
    · have : m = n + 1 := by omega
      subst this
      exact rg_le_rf _
noncomputable def rn : rg_T := fun d y pc L st σ => @dite (Option rg_R) (∃ n r, rg_ex n d y pc L st σ = some r) (Classical.propDecidable _) (fun h => some (Classical.choose (Classical.choose_spec h))) (fun _ => none)
theorem rn_iff {d y pc : Nat} {L : rg_L} {st : List Value} {σ : rg_S} {r : rg_R} : rn d y pc L st σ = some r ↔ ∃ n, rg_ex n d y pc L st σ = some r := by
  unfold rn
  constructor
  · intro h
    split at h
    · rename_i q
      cases h
      exact ⟨_, Classical.choose_spec (Classical.choose_spec q)⟩
    · cases h
  · rintro ⟨n, h⟩
    have q : ∃ n r, rg_ex n d y pc L st σ = some r := ⟨n, r, h⟩
    rw [dif_pos q]
    have h1 := Classical.choose_spec (Classical.choose_spec q)
    have a := rg_ex_mono (Nat.le_max_left n (Classical.choose q)) _ _ _ _ _ _ _ h
    have b := rg_ex_mono (Nat.le_max_right n (Classical.choose q)) _ _ _ _ _ _ _ h1
    rw [← a, ← b]
theorem rg_le_rn (n : Nat) : rg_le (rg_ex n) rn := fun _ _ _ _ _ _ _ h => rn_iff.mpr ⟨n, h⟩
theorem rg_cr_co {d y : Nat} {as : List Value} {σ : rg_S} {r : rg_R} (e : rg_cr rn d y as σ = some r) : ∃ n, rg_cr (rg_ex n) d y as σ = some r := by
  unfold rg_cr at e ⊢
  split at e
  · rename_i q
    exact ⟨0, by rw [if_pos q]; exact e⟩
  · rename_i q
    cases d with
    | zero => cases e
    | succ d =>
      dsimp only at e
      split at e
      · rename_i q2
        obtain ⟨n, h⟩ := rn_iff.mp e
        exact ⟨n, by rw [if_neg q]; dsimp only; rw [if_pos q2]; exact h⟩
      · cases e
theorem rg_th_co {d y pc : Nat} {L : rg_L} {q : Nat} {σ : rg_S} {r : rg_R} (e : rg_th rn d y pc L q σ = some r) : ∃ n, rg_th (rg_ex n) d y pc L q σ = some r := by
  unfold rg_th at e ⊢
  cases hc : rg_tc σ q with
  | none => rw [hc] at e; cases e
  | some c =>
    rw [hc] at e
    dsimp only at e ⊢
    cases hh : rg_hd pc c (rg_hds y) with
    | none => rw [hh] at e; exact ⟨0, e⟩
    | some k => rw [hh] at e; exact rn_iff.mp e
theorem rg_F_co {d y pc : Nat} {L : rg_L} {st : List Value} {σ : rg_S} {r : rg_R} (e : rg_F rn d y pc L st σ = some r) : ∃ n, rg_ex n d y pc L st σ = some r := by
  have e : rg_K rn d y pc L ((rg_at y pc).bind fun o => rg_do o L st σ) = some r := e
  suffices h : ∃ n, rg_K (rg_ex n) d y pc L ((rg_at y pc).bind fun o => rg_do o L st σ) = some r by
    obtain ⟨n, h⟩ := h
    exact ⟨n + 1, h⟩
  generalize ((rg_at y pc).bind fun o => rg_do o L st σ) = x at e ⊢
  rcases x with _ | ⟨pc', L', st', σ'⟩ | ⟨y', as, npc, rest, σ'⟩ | ⟨v, σ'⟩ | ⟨q, σ'⟩
  · cases e
  · exact rn_iff.mp e
  · have e' : rg_af rn d y pc L npc rest (rg_cr rn d y' as σ') = some r := e
    cases hc : rg_cr rn d y' as σ' with
    | none => rw [hc] at e'; cases e'
    | some z =>
      rw [hc] at e'
      obtain ⟨n1, h1⟩ := rg_cr_co hc
      have h2 : ∃ n2, rg_af (rg_ex n2) d y pc L npc rest (some z) = some r := by
        rcases z with ⟨v, σ2⟩ | ⟨q, σ2⟩
        · exact rn_iff.mp e'
        · exact rg_th_co e'
      obtain ⟨n2, h2⟩ := h2
      refine ⟨max n1 n2, ?_⟩
      show rg_af (rg_ex (max n1 n2)) d y pc L npc rest (rg_cr (rg_ex (max n1 n2)) d y' as σ') = some r
      rw [rg_cr_mono (rg_ex_mono (Nat.le_max_left n1 n2)) h1]
      exact rg_af_mono (rg_ex_mono (Nat.le_max_right n1 n2)) h2
  · exact ⟨0, e⟩
  · exact rg_th_co e
theorem rn_eq : rn = rg_F rn := by
  funext d y pc L st σ
  apply Option.ext
  intro r
  constructor
  · intro h
    obtain ⟨n, h⟩ := rn_iff.mp h
    exact rg_F_mono (rg_le_rn n) _ _ _ _ _ _ _ (rg_ex_up n _ _ _ _ _ _ _ h)
  · intro h
    exact rn_iff.mpr (rg_F_co h)
-- ===== one equation a kind of instruction =====
section RK
variable {d y pc npc t : Nat} {o : rg_op} {L L' : rg_L} {st r : List Value} {σ σ' : rg_S} {v w : Value}
theorem rk_K (h : rg_at y pc = some o) : rn d y pc L st σ = rg_K rn d y pc L (rg_do o L st σ) := by
  have e := congrFun (congrFun (congrFun (congrFun (congrFun (congrFun rn_eq d) y) pc) L) st) σ
  rw [e]
  show rg_K rn d y pc L ((rg_at y pc).bind fun o => rg_do o L st σ) = _
  rw [h]
  rfl
theorem rk_go {st' : List Value} (h : rg_at y pc = some o) (h2 : rg_do o L st σ = rg_go npc L' st' σ') : rn d y pc L st σ = rn d y npc L' st' σ' := by
  rw [rk_K h, h2]; rfl
theorem rk_ld {k : Value → Bool} {i : Nat} (h : rg_at y pc = some o) (h2 : rg_do o = rg_lod k i npc) (h3 : L[i]? = some (some v)) (h4 : k v = true) : rn d y pc L st σ = rn d y npc L (v :: st) σ := by
  refine rk_go h ?_
  rw [h2]
  unfold rg_lod
  rw [h3]
  simp [h4]
theorem rk_sta {k : Value → Bool} {i : Nat} (h : rg_at y pc = some o) (h2 : rg_do o = rg_sta k i npc) (h3 : rg_kill L i = L) (h5 : decide (i < L.length) = true) (h6 : L.set i (some v) = L') (h4 : k v = true) : rn d y pc L (v :: r) σ = rn d y npc L' r σ := by
  refine rk_go h ?_
  rw [h2]
  unfold rg_sta
  simp only [h4, h5, Bool.and_self, if_true, rg_sto, h3, h6]
theorem rk_stj {i : Nat} {z : Int64} (h : rg_at y pc = some o) (h2 : rg_do o = rg_stj i npc) (h3 : rg_kill L i = L) (h5 : decide (i + 1 < L.length) = true) (h6 : (L.set (i + 1) none).set i (some (.long z)) = L') : rn d y pc L (.long z :: r) σ = rn d y npc L' r σ := by
  refine rk_go h ?_
  rw [h2]
  unfold rg_stj
  simp only [rg_isj, h5, Bool.and_self, if_true, rg_sto2, h3, h6]
theorem rk_inc {i : Nat} {n : Int} {x : Int32} (h : rg_at y pc = some o) (h2 : rg_do o = rg_inc i n npc) (h0 : L[i]? = some (some (.int x))) (h3 : rg_kill L i = L) (h6 : L.set i (some (.int (x + zI n))) = L') : rn d y pc L st σ = rn d y npc L' st σ := by
  refine rk_go h ?_
  rw [h2]
  unfold rg_inc
  simp only [h0, rg_sto, h3, h6]
theorem rk_if {c : Prop} [Decidable c] {a b : Nat} (h : rg_at y pc = some o) (h2 : rg_do o L st σ = if c then rg_go a L r σ else rg_go b L r σ) : rn d y pc L st σ = if c then rn d y a L r σ else rn d y b L r σ := by
  rw [rk_K h, h2]
  split <;> rfl
/-- a field's value; an array's; what a store makes of a cell -/
def rg_fv (e : Option rg_E) (x : List (Nat × Nat)) : Value := match e with
  | some (.inr (c, F)) => F ((rg_lk c x).getD 0)
  | _ => .null
def rg_gok (e : Option rg_E) (x : List (Nat × Nat)) : Bool := match e with
  | some (.inr (c, _)) => (rg_lk c x).isSome
  | _ => false
theorem rk_get {x : List (Nat × Nat)} {a : Nat} (h : rg_at y pc = some o) (h2 : rg_do o = rg_get x npc) (hk : rg_gok (rg_rd σ a) x = true) : rn d y pc L (.ref a :: r) σ = rn d y npc L (rg_fv (rg_rd σ a) x :: r) σ := by
  rw [rk_K h, h2]
  unfold rg_get
  unfold rg_gok at hk
  unfold rg_fv
  dsimp only
  generalize rg_rd σ a = zz at hk ⊢
  rcases zz with _ | e | ⟨c, F⟩
  · cases hk
  · cases hk
  · dsimp only at hk ⊢
    cases hc : rg_lk c x with
    | none => rw [hc] at hk; cases hk
    | some j => rfl
def rg_pv (e : Option rg_E) (x : List (Nat × Nat)) (v : Value) : rg_E := match e with
  | some (.inr (c, F)) => .inr (c, va_up F ((rg_lk c x).getD 0) v)
  | _ => .inr (0, rg_f [])
theorem rk_put {x : List (Nat × Nat)} {a : Nat} (h : rg_at y pc = some o) (h2 : rg_do o = rg_put t x npc) (hk : rg_gok (rg_h σ a) x = true) (hv : rg_fit t v = true) : rn d y pc L (v :: .ref a :: r) σ = rn d y npc L r (rg_set σ a (rg_pv (rg_h σ a) x v)) := by
  rw [rk_K h, h2]
  unfold rg_put
  unfold rg_gok at hk
  unfold rg_pv
  dsimp only
  generalize rg_h σ a = zz at hk ⊢
  rcases zz with _ | e | ⟨c, F⟩
  · cases hk
  · cases hk
  · dsimp only at hk ⊢
    cases hc : rg_lk c x with
    | none => rw [hc] at hk; cases hk
    | some j => dsimp only; rw [if_pos hv]; rfl
def rg_iok (ks : List Nat) (e : Option rg_E) (i : Int32) : Bool := match e with
  | some (.inl (c, n, .inl _)) => ks.contains c && rg_in i n
  | _ => false
def rg_iv (e : Option rg_E) (i : Int32) : Int32 := match e with
  | some (.inl (_, _, .inl f)) => f i.toNatClampNeg
  | _ => 0
theorem rk_ial {ks : List Nat} {i : Int32} {a : Nat} (h : rg_at y pc = some o) (h2 : rg_do o = rg_ial ks npc) (hk : rg_iok ks (rg_rd σ a) i = true) : rn d y pc L (.int i :: .ref a :: r) σ = rn d y npc L (.int (rg_iv (rg_rd σ a) i) :: r) σ := by
  rw [rk_K h, h2]
  unfold rg_ial
  unfold rg_iok at hk
  unfold rg_iv
  dsimp only
  generalize rg_rd σ a = zz at hk ⊢
  rcases zz with _ | ⟨c, n, f | f | f | f | f⟩ | e
  all_goals first | (cases hk; done) | (dsimp only at hk ⊢; rw [if_pos hk]; rfl)
def rg_jok (e : Option rg_E) (i : Int32) : Bool := match e with
  | some (.inl (c, n, .inr (.inl _))) => c == 1 && rg_in i n
  | _ => false
def rg_jv (e : Option rg_E) (i : Int32) : Int64 := match e with
  | some (.inl (_, _, .inr (.inl f))) => f i.toNatClampNeg
  | _ => 0
theorem rk_jal {i : Int32} {a : Nat} (h : rg_at y pc = some o) (h2 : rg_do o = rg_jal npc) (hk : rg_jok (rg_rd σ a) i = true) : rn d y pc L (.int i :: .ref a :: r) σ = rn d y npc L (.long (rg_jv (rg_rd σ a) i) :: r) σ := by
  rw [rk_K h, h2]
  unfold rg_jal
  unfold rg_jok at hk
  unfold rg_jv
  dsimp only
  generalize rg_rd σ a = zz at hk ⊢
  rcases zz with _ | ⟨c, n, f | f | f | f | f⟩ | e
  all_goals first | (cases hk; done) | (dsimp only at hk ⊢; rw [if_pos hk]; rfl)
def rg_qok (e : Option rg_E) (i : Int32) : Bool := match e with
  | some (.inl (c, n, .inr (.inr (.inr (.inr _))))) => [4, 5, 6].contains c && rg_in i n
  | _ => false
def rg_qol (e : Option rg_E) (i : Int32) : Bool := match e with
  | some (.inl (c, n, .inr (.inr (.inr (.inr _))))) => [4, 5, 6, 7].contains c && rg_in i n
  | _ => false
def rg_qv (e : Option rg_E) (i : Int32) : Option Nat := match e with
  | some (.inl (_, _, .inr (.inr (.inr (.inr f))))) => f i.toNatClampNeg
  | _ => none
theorem rk_qal {i : Int32} {a : Nat} (h : rg_at y pc = some o) (h2 : rg_do o = rg_qal npc) (hk : rg_qol (rg_rd σ a) i = true) : rn d y pc L (.int i :: .ref a :: r) σ = rn d y npc L (va_rf (rg_qv (rg_rd σ a) i) :: r) σ := by
  rw [rk_K h, h2]
  unfold rg_qal
  unfold rg_qol at hk
  unfold rg_qv
  dsimp only
  generalize rg_rd σ a = zz at hk ⊢
  rcases zz with _ | ⟨c, n, f | f | f | f | f⟩ | e
  all_goals first | (cases hk; done) | (dsimp only at hk ⊢; rw [if_pos hk]; rfl)
def rg_is (e : Option rg_E) (i x : Int32) : rg_E := match e with
  | some (.inl (c, n, .inl f)) => .inl (c, n, .inl (upd f i.toNatClampNeg x))
  | _ => .inr (0, rg_f [])
theorem rk_ias {i x : Int32} {a : Nat} (h : rg_at y pc = some o) (h2 : rg_do o = rg_ias npc) (hk : rg_iok [0] (rg_h σ a) i = true) : rn d y pc L (.int x :: .int i :: .ref a :: r) σ = rn d y npc L r (rg_set σ a (rg_is (rg_h σ a) i x)) := by
  rw [rk_K h, h2]
  unfold rg_ias
  unfold rg_iok at hk
  unfold rg_is
  dsimp only
  generalize rg_h σ a = zz at hk ⊢
  rcases zz with _ | ⟨c, n, f | f | f | f | f⟩ | e
  all_goals first | (cases hk; done) | skip
  simp only [Bool.and_eq_true, List.contains_cons, List.contains_nil, Bool.or_false, beq_iff_eq] at hk
  obtain ⟨rfl, hk⟩ := hk
  simp only [BEq.rfl, hk, Bool.and_self, if_true]
  rfl
/-- bytes -/
theorem rk_bas {i x : Int32} {a : Nat} (h : rg_at y pc = some o) (h2 : rg_do o = rg_bas npc) (hk : rg_iok [2] (rg_h σ a) i = true) : rn d y pc L (.int x :: .int i :: .ref a :: r) σ = rn d y npc L r (rg_set σ a (rg_is (rg_h σ a) i (vp_nar .byte x))) := by
  rw [rk_K h, h2]
  unfold rg_bas
  unfold rg_iok at hk
  unfold rg_is
  dsimp only
  generalize rg_h σ a = zz at hk ⊢
  rcases zz with _ | ⟨c, n, f | f | f | f | f⟩ | e
  all_goals first | (cases hk; done) | skip
  simp only [Bool.and_eq_true, List.contains_cons, List.contains_nil, Bool.or_false, beq_iff_eq] at hk
  obtain ⟨rfl, hk⟩ := hk
  simp only [BEq.rfl, hk, Bool.and_self, if_true]
  rfl
/-- booleans -/
theorem rk_zas {i x : Int32} {a : Nat} (h : rg_at y pc = some o) (h2 : rg_do o = rg_bas npc) (hk : rg_iok [3] (rg_h σ a) i = true) (hx : rg_isb x = true) : rn d y pc L (.int x :: .int i :: .ref a :: r) σ = rn d y npc L r (rg_set σ a (rg_is (rg_h σ a) i x)) := by
  rw [rk_K h, h2]
  unfold rg_bas
  unfold rg_iok at hk
  unfold rg_is
  dsimp only
  generalize rg_h σ a = zz at hk ⊢
  rcases zz with _ | ⟨c, n, f | f | f | f | f⟩ | e
  all_goals first | (cases hk; done) | skip
  simp only [Bool.and_eq_true, List.contains_cons, List.contains_nil, Bool.or_false, beq_iff_eq] at hk
  obtain ⟨rfl, hk⟩ := hk
  simp only [BEq.rfl, hk, hx, Bool.and_self, if_true, Nat.reduceBEq, Bool.false_and, Bool.false_eq_true, if_false]
  rfl
def rg_js1 (e : Option rg_E) (i : Int32) (x : Int64) : rg_E := match e with
  | some (.inl (c, n, .inr (.inl f))) => .inl (c, n, .inr (.inl (vp_updL f i.toNatClampNeg x)))
  | _ => .inr (0, rg_f [])
theorem rk_jas {i : Int32} {x : Int64} {a : Nat} (h : rg_at y pc = some o) (h2 : rg_do o = rg_jas npc) (hk : rg_jok (rg_h σ a) i = true) : rn d y pc L (.long x :: .int i :: .ref a :: r) σ = rn d y npc L r (rg_set σ a (rg_js1 (rg_h σ a) i x)) := by
  rw [rk_K h, h2]
  unfold rg_jas
  unfold rg_jok at hk
  unfold rg_js1
  dsimp only
  generalize rg_h σ a = zz at hk ⊢
  rcases zz with _ | ⟨c, n, f | f | f | f | f⟩ | e
  all_goals first | (cases hk; done) | skip
  simp only [Bool.and_eq_true, beq_iff_eq] at hk
  obtain ⟨rfl, hk⟩ := hk
  simp only [BEq.rfl, hk, Bool.and_self, if_true]
  rfl
def rg_qs (e : Option rg_E) (i : Int32) (b : Option Nat) : rg_E := match e with
  | some (.inl (c, n, .inr (.inr (.inr (.inr f))))) => .inl (c, n, .inr (.inr (.inr (.inr (va_up f i.toNatClampNeg b)))))
  | _ => .inr (0, rg_f [])
def rg_qsok (x : List (Nat × Nat)) (e : Option rg_E) (v : Option Nat) (i : Int32) : Bool := match e with
  | some (.inl (c, n, .inr (.inr (.inr (.inr _))))) => (match v with
    | some ci => x.contains (c, ci) && rg_in i n
    | none => false)
  | _ => false
theorem rk_qas {x : List (Nat × Nat)} {i : Int32} {a b : Nat} (h : rg_at y pc = some o) (h2 : rg_do o = rg_qas x npc) (hk : rg_qsok x (rg_h σ a) (rg_cls σ b) i = true) : rn d y pc L (.ref b :: .int i :: .ref a :: r) σ = rn d y npc L r (rg_set σ a (rg_qs (rg_h σ a) i (some b))) := by
  rw [rk_K h, h2]
  unfold rg_qas
  unfold rg_qsok rg_cls at hk
  unfold rg_qs
  dsimp only
  generalize rg_h σ a = zz at hk ⊢
  generalize rg_rd σ b = z2 at hk ⊢
  rcases zz with _ | ⟨c, n, f | f | f | f | f⟩ | e
  all_goals first | (cases hk; done) | skip
  rcases z2 with _ | e | ⟨ci, F⟩
  all_goals first | (cases hk; done) | skip
  dsimp only at hk ⊢
  rw [if_pos hk]
  rfl
theorem rk_qaz {x : List (Nat × Nat)} {i : Int32} {a : Nat} (h : rg_at y pc = some o) (h2 : rg_do o = rg_qas x npc) (hk : rg_qok (rg_h σ a) i = true) : rn d y pc L (.null :: .int i :: .ref a :: r) σ = rn d y npc L r (rg_set σ a (rg_qs (rg_h σ a) i none)) := by
  rw [rk_K h, h2]
  unfold rg_qas
  unfold rg_qok at hk
  unfold rg_qs
  dsimp only
  generalize rg_h σ a = zz at hk ⊢
  rcases zz with _ | ⟨c, n, f | f | f | f | f⟩ | e
  all_goals first | (cases hk; done) | (dsimp only at hk ⊢; rw [if_pos hk]; rfl)
def rg_alen (e : Option rg_E) : Nat := match e with
  | some (.inl (_, n, _)) => n
  | _ => 0
def rg_isa (e : Option rg_E) : Bool := match e with
  | some (.inl (k, _)) => !(k == 8)
  | _ => false
theorem rk_len {a : Nat} (h : rg_at y pc = some o) (h2 : rg_do o = rg_len npc) (hk : rg_isa (rg_rd σ a) = true) : rn d y pc L (.ref a :: r) σ = rn d y npc L (.int (zI (rg_alen (rg_rd σ a))) :: r) σ := by
  rw [rk_K h, h2]
  unfold rg_len
  unfold rg_isa at hk
  unfold rg_alen
  dsimp only
  generalize rg_rd σ a = zz at hk ⊢
  rcases zz with _ | ⟨c, n, f⟩ | e
  · cases hk
  · dsimp only at hk ⊢
    rw [Bool.not_eq_true'] at hk
    rw [hk]
    rfl
  · cases hk
def rg_nok (i : Int32) : Bool := decide (¬ i < 0) && decide (i.toNatClampNeg ≤ 60000000)
theorem rk_nar {k : Nat} {i : Int32} (h : rg_at y pc = some o) (h2 : rg_do o = rg_nar k npc) (hk : rg_nok i = true) : rn d y pc L (.int i :: r) σ = rn d y npc L (.ref (rg_sz σ) :: r) (rg_new σ (rg_arr k i.toNatClampNeg) i.toNatClampNeg) := by
  rw [rk_K h, h2]
  unfold rg_nar
  unfold rg_nok at hk
  dsimp only
  rw [if_pos hk]
  rfl
theorem rk_cst {x : List (Nat × Nat)} {a : Nat} (h : rg_at y pc = some o) (h2 : rg_do o = rg_cst x npc) (hk : rg_gok (rg_rd σ a) x = true) : rn d y pc L (.ref a :: r) σ = rn d y npc L (.ref a :: r) σ := by
  rw [rk_K h, h2]
  unfold rg_cst
  unfold rg_gok at hk
  dsimp only
  generalize rg_rd σ a = zz at hk ⊢
  rcases zz with _ | e | ⟨c, F⟩
  · cases hk
  · cases hk
  · dsimp only at hk ⊢
    cases hc : rg_lk c x with
    | none => rw [hc] at hk; cases hk
    | some j => rfl
def rg_inv (e : Option rg_E) (x : List (Nat × Nat)) : Nat := match e with
  | some (.inr (c, _)) => (rg_lk c x).getD 0
  | _ => 0
theorem rk_ins {x : List (Nat × Nat)} {a : Nat} (h : rg_at y pc = some o) (h2 : rg_do o = rg_ins x npc) (hk : rg_gok (rg_rd σ a) x = true) : rn d y pc L (.ref a :: r) σ = rn d y npc L (.int (zI (rg_inv (rg_rd σ a) x)) :: r) σ := by
  rw [rk_K h, h2]
  unfold rg_ins
  unfold rg_gok at hk
  unfold rg_inv
  dsimp only
  generalize rg_rd σ a = zz at hk ⊢
  rcases zz with _ | e | ⟨c, F⟩
  · cases hk
  · cases hk
  · dsimp only at hk ⊢
    cases hc : rg_lk c x with
    | none => rw [hc] at hk; cases hk
    | some j => rfl
theorem rk_csn {x : List (Nat × Nat)} (h : rg_at y pc = some o) (h2 : rg_do o = rg_cst x npc) : rn d y pc L (.null :: r) σ = rn d y npc L (.null :: r) σ := by
  rw [rk_K h, h2]; rfl
theorem rk_nul {b : Bool} (h : rg_at y pc = some o) (h2 : rg_do o = rg_nul b t npc) (h3 : rg_isr v = true) : rn d y pc L (v :: r) σ = if v = .null then rn d y (if b then t else npc) L r σ else rn d y (if b then npc else t) L r σ := by
  rw [rk_K h, h2]
  unfold rg_nul
  simp only [h3, if_true]
  split <;> rfl
theorem rk_acm {b : Bool} (h : rg_at y pc = some o) (h2 : rg_do o = rg_acm b t npc) (h3 : rg_isr v = true) (h4 : rg_isr w = true) : rn d y pc L (v :: w :: r) σ = if w = v then rn d y (if b then t else npc) L r σ else rn d y (if b then npc else t) L r σ := by
  rw [rk_K h, h2]
  unfold rg_acm
  simp only [h3, h4, Bool.and_self, if_true]
  split <;> rfl
/-- behind a call -/
noncomputable def rg_k (d y pc : Nat) (L : rg_L) (npc : Nat) (rest : List Value) (x : Option rg_R) : Option rg_R := rg_af rn d y pc L npc rest x
theorem k_v {rest : List Value} : rg_k d y pc L npc rest (some (.inl (some v, σ))) = rn d y npc L (v :: rest) σ := rfl
theorem k_0 {rest : List Value} : rg_k d y pc L npc rest (some (.inl (none, σ))) = rn d y npc L rest σ := rfl
theorem k_x {rest : List Value} {q : Nat} : rg_k d y pc L npc rest (some (.inr (q, σ))) = rg_th rn d y pc L q σ := rfl
theorem rg_pad_len {n : Nat} {L L1 : rg_L} (h : rg_pad n L = L1) (h2 : L1.length = n) : L.length ≤ n := by
  rw [← h] at h2
  unfold rg_pad at h2
  rw [List.length_append, List.length_replicate] at h2
  omega
/-- the callee y' with these locals -/
theorem rk_cal {y' : Nat} {as rest : List Value} {L1 : rg_L} (h : rg_at y pc = some o) (h2 : rg_do o L st σ = some (.inr (.inl (y', as, npc, rest, σ)))) (h3 : y' < 500) (h4 : rg_pad (rg_ml y') (rg_args as) = L1) (h5 : L1.length = rg_ml y' := by rfl) : rn (d + 1) y pc L st σ = rg_k (d + 1) y pc L npc rest (rn d y' 0 L1 [] σ) := by
  have h6 := rg_pad_len h4 h5
  rw [rk_K h, h2]
  show rg_af rn (d + 1) y pc L npc rest (rg_cr rn (d + 1) y' as σ) = _
  unfold rg_cr
  rw [if_neg (by omega)]
  dsimp only
  rw [if_pos h6, h4]
  rfl
theorem rk_int {y' : Nat} {as rest : List Value} (h : rg_at y pc = some o) (h2 : rg_do o L st σ = some (.inr (.inl (y', as, npc, rest, σ)))) (h3 : 500 ≤ y') : rn (d + 4) y pc L st σ = rg_k (d + 4) y pc L npc rest (rg_intr y' as σ) := by
  rw [rk_K h, h2]
  show rg_af rn (d + 4) y pc L npc rest (rg_cr rn (d + 4) y' as σ) = _
  unfold rg_cr
  rw [if_pos h3, if_pos (by omega)]
  rfl
/-- a call through an object: its class picks the method -/
theorem rk_vir {n b y' c : Nat} {x : List (Nat × Nat)} {as rest : List Value} {L1 : rg_L} (h : rg_at y pc = some o) (h2 : rg_do o L st σ = rg_cal ((n, 1) :: x) npc L st σ) (h3 : n ≤ st.length) (h4 : st.drop n = .ref b :: rest) (h5 : (st.take n).reverse = as) (hl : rg_lk c x = some y') (h7 : y' < 500) (h8 : rg_pad (rg_ml y') (rg_args (.ref b :: as)) = L1) (h6 : rg_w rest ≤ 8) (hc : rg_cls σ b = some c) (h9 : L1.length = rg_ml y' := by rfl) : rn (d + 1) y pc L st σ = rg_k (d + 1) y pc L npc rest (rn d y' 0 L1 [] σ) := by
  have h10 := rg_pad_len h8 h9
  rw [rk_K h, h2]
  unfold rg_cal
  dsimp only
  rw [if_pos h3, h4, h5]
  dsimp only
  unfold rg_cls at hc
  generalize rg_rd σ b = zz at hc ⊢
  rcases zz with _ | e | ⟨c', F⟩
  · cases hc
  · cases hc
  · dsimp only at hc ⊢
    cases hc
    rw [hl]
    dsimp only
    rw [if_pos h6]
    show rg_af rn (d + 1) y pc L npc rest (rg_cr rn (d + 1) y' (.ref b :: as) σ) = _
    unfold rg_cr
    rw [if_neg (by omega)]
    dsimp only
    rw [if_pos h10, h8]
    rfl
theorem rk_ret (h : rg_at y pc = some o) (h2 : rg_do o L st σ = some (.inr (.inr (.inl (some v, σ))))) : rn d y pc L st σ = some (.inl (some v, σ)) := by
  rw [rk_K h, h2]; rfl
theorem rk_rt0 (h : rg_at y pc = some o) (h2 : rg_do o L st σ = some (.inr (.inr (.inl (none, σ))))) : rn d y pc L st σ = some (.inl (none, σ)) := by
  rw [rk_K h, h2]; rfl
theorem rk_thr {q : Nat} (h : rg_at y pc = some o) (h2 : rg_do o L st σ = some (.inr (.inr (.inr (q, σ))))) : rn d y pc L st σ = rg_th rn d y pc L q σ := by
  rw [rk_K h, h2]; rfl
end RK
theorem rg_at_of {y pc : Nat} {c : List (Nat × rg_op)} {o : rg_op} (h : rg_code y = c) (h2 : rg_find pc c = some o) : rg_at y pc = some o := by unfold rg_at; rw [h]; exact h2
theorem rg_aq {v : Value} {r : List Value} (h : rg_isl v = false) : rg_args (v :: r) = some v :: rg_args r := if_neg (by rw [h]; decide)
theorem rg_ai {x : Int32} {r : List Value} : rg_args (.int x :: r) = some (.int x) :: rg_args r := rfl
theorem rg_aj {x : Int64} {r : List Value} : rg_args (.long x :: r) = some (.long x) :: none :: rg_args r := rfl
theorem rg_ar {x : Nat} {r : List Value} : rg_args (.ref x :: r) = some (.ref x) :: rg_args r := rfl
theorem rg_an : rg_args [] = [] := rfl
def rg_lgo : Option Value → Bool
  | some v => rg_isl v
  | none => false
theorem rg_kill_ok {L : rg_L} {j : Nat} {l : Option Value} (h : L[j]? = some l) (h2 : rg_lgo l = false) : rg_kill L (j + 1) = L := by
  show (if rg_lg L[j]? = true then L.set j none else L) = L
  rw [h]
  cases l with
  | none => rfl
  | some v => rw [show rg_lg (some (some v)) = rg_isl v from rfl, show rg_isl v = false from h2]; rfl
