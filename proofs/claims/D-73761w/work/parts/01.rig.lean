/-! THE ABSTRACT MACHINE. A pure picture of what the bytecode does: heap cells by number, fields and array contents as functions, ints as Int32. rg_do: one instruction; rg_F: one step of a method with its calls; rg_ex: by fuel; rn: its limit. What holds of rn is carried to the real machine by one theorem (rg_sound, a later part). -/
set_option maxRecDepth 100000
abbrev rg_E : Type := (Nat × vp_A) ⊕ (Nat × (Nat → Value))
abbrev rg_S : Type := (Nat × Nat) × (Nat → Option rg_E) × (Nat → Option rg_E) × (Nat → Value)
abbrev rg_L : Type := List (Option Value)
abbrev rg_R : Type := (Option Value × rg_S) ⊕ (Nat × rg_S)
abbrev rg_op : Type := Instr × Nat × List (Nat × Nat)
abbrev rg_O : Type := (Nat × rg_L × List Value × rg_S) ⊕ ((Nat × List Value × Nat × List Value × rg_S) ⊕ ((Option Value × rg_S) ⊕ (Nat × rg_S)))
/-- an int by its number -/
def zI (z : Int) : Int32 := Int32.ofInt z
def zL (z : Int) : Int64 := Int64.ofInt z
/-- the state: cells made so far in all (the heap's size), slots made so far; the cells that are ours; the cells that are only read; the statics -/
def rg_sz (σ : rg_S) : Nat := σ.1.1
def rg_sl (σ : rg_S) : Nat := σ.1.2
def rg_h (σ : rg_S) : Nat → Option rg_E := σ.2.1
def rg_r (σ : rg_S) : Nat → Option rg_E := σ.2.2.1
def rg_st (σ : rg_S) : Nat → Value := σ.2.2.2
def rg_rd (σ : rg_S) (a : Nat) : Option rg_E := match rg_h σ a with
  | some e => some e
  | none => rg_r σ a
def rg_set (σ : rg_S) (a : Nat) (e : rg_E) : rg_S := (σ.1, (fun q => if q = a then some e else rg_h σ q), σ.2.2)
def rg_new (σ : rg_S) (e : rg_E) (n : Nat) : rg_S := ((rg_sz σ + 1, rg_sl σ + n), (fun q => if q = rg_sz σ then some e else rg_h σ q), σ.2.2)
def rg_isl : Value → Bool
  | .long _ => true
  | .double _ => true
  | _ => false
def rg_isi : Value → Bool
  | .int _ => true
  | _ => false
def rg_isj : Value → Bool
  | .long _ => true
  | _ => false
def rg_isr : Value → Bool
  | .ref _ => true
  | .null => true
  | _ => false
def rg_w : List Value → Nat
  | [] => 0
  | v :: r => (if rg_isl v then 2 else 1) + rg_w r
def rg_in (i : Int32) (n : Nat) : Bool := decide (¬ i < 0) && decide (i.toNatClampNeg < n)
/-- fields by a list -/
def rg_f (l : List Value) : Nat → Value := fun k => l.getD k .null
/-- what a boolean field or array keeps -/
def rg_isb (x : Int32) : Bool := decide (x = zI 0) || decide (x = zI 1)
/-- does a value fit a field: 0 int, 1 long, 2 boolean, 3 a reference -/
def rg_fit : Nat → Value → Bool
  | 0, v => rg_isi v
  | 1, v => rg_isj v
  | 2, .int x => rg_isb x
  | 3, v => rg_isr v
  | _, _ => false
-- ===== locals =====
def rg_lg : Option (Option Value) → Bool
  | some (some v) => rg_isl v
  | _ => false
def rg_kill (L : rg_L) : Nat → rg_L
  | 0 => L
  | j + 1 => if rg_lg L[j]? then L.set j none else L
def rg_sto (L : rg_L) (i : Nat) (v : Value) : rg_L := (rg_kill L i).set i (some v)
def rg_sto2 (L : rg_L) (i : Nat) (v : Value) : rg_L := ((rg_kill L i).set (i + 1) none).set i (some v)
def rg_args : List Value → rg_L
  | [] => []
  | v :: r => if rg_isl v then some v :: none :: rg_args r else some v :: rg_args r
def rg_pad (n : Nat) (L : rg_L) : rg_L := L ++ List.replicate (n - L.length) none
-- ===== one instruction =====
def rg_go (pc : Nat) (L : rg_L) (st : List Value) (σ : rg_S) : Option rg_O := some (.inl (pc, L, st, σ))
def rg_lod (t : Value → Bool) (i pc : Nat) (L : rg_L) (st : List Value) (σ : rg_S) : Option rg_O := match L[i]? with
  | some (some v) => if t v then rg_go pc L (v :: st) σ else none
  | _ => none
def rg_sta (t : Value → Bool) (i pc : Nat) (L : rg_L) (st : List Value) (σ : rg_S) : Option rg_O := match st with
  | v :: r => if t v && decide (i < L.length) then rg_go pc (rg_sto L i v) r σ else none
  | _ => none
def rg_stj (i pc : Nat) (L : rg_L) (st : List Value) (σ : rg_S) : Option rg_O := match st with
  | v :: r => if rg_isj v && decide (i + 1 < L.length) then rg_go pc (rg_sto2 L i v) r σ else none
  | _ => none
def rg_inc (i : Nat) (n : Int) (pc : Nat) (L : rg_L) (st : List Value) (σ : rg_S) : Option rg_O := match L[i]? with
  | some (some (.int x)) => rg_go pc (rg_sto L i (.int (x + zI n))) st σ
  | _ => none
def rg_b2 (f : Int32 → Int32 → Int32) (pc : Nat) (L : rg_L) (st : List Value) (σ : rg_S) : Option rg_O := match st with
  | .int y :: .int x :: r => rg_go pc L (.int (f x y) :: r) σ
  | _ => none
def rg_j2 (f : Int64 → Int64 → Int64) (pc : Nat) (L : rg_L) (st : List Value) (σ : rg_S) : Option rg_O := match st with
  | .long y :: .long x :: r => rg_go pc L (.long (f x y) :: r) σ
  | _ => none
def rg_js (f : Int64 → Int32 → Int64) (pc : Nat) (L : rg_L) (st : List Value) (σ : rg_S) : Option rg_O := match st with
  | .int y :: .long x :: r => rg_go pc L (.long (f x y) :: r) σ
  | _ => none
def rg_u1 (f : Int32 → Int32) (pc : Nat) (L : rg_L) (st : List Value) (σ : rg_S) : Option rg_O := match st with
  | .int x :: r => rg_go pc L (.int (f x) :: r) σ
  | _ => none
def rg_dv (pc : Nat) (L : rg_L) (st : List Value) (σ : rg_S) : Option rg_O := match st with
  | .int y :: .int x :: r => if y = 0 then none else rg_go pc L (.int (x / y) :: r) σ
  | _ => none
def rg_cnd (c : ClassFile.Cond) (x y : Int32) (t pc : Nat) (L : rg_L) (st : List Value) (σ : rg_S) : Option rg_O := match c with
  | .eq => if x = y then rg_go t L st σ else rg_go pc L st σ
  | .ne => if x = y then rg_go pc L st σ else rg_go t L st σ
  | .lt => if x < y then rg_go t L st σ else rg_go pc L st σ
  | .ge => if x < y then rg_go pc L st σ else rg_go t L st σ
  | .gt => if y < x then rg_go t L st σ else rg_go pc L st σ
  | .le => if y < x then rg_go pc L st σ else rg_go t L st σ
def rg_tg (x : List (Nat × Nat)) : Nat := (x.head?.map (·.1)).getD 0
def rg_tsw (x : Int32) (lo : Int) (ts : List (Nat × Nat)) : Nat → Nat := fun d => if x.toInt < lo then d else match ts[(x.toInt - lo).toNat]? with
  | some t => t.1
  | none => d
/-- class number in a list of pairs -/
def rg_lk (ci : Nat) : List (Nat × Nat) → Option Nat
  | [] => none
  | (c, k) :: r => if ci = c then some k else rg_lk ci r
def rg_get (x : List (Nat × Nat)) (pc : Nat) (L : rg_L) (st : List Value) (σ : rg_S) : Option rg_O := match st with
  | .ref a :: r => match rg_rd σ a with
    | some (.inr (ci, F)) => match rg_lk ci x with
      | some k => rg_go pc L (F k :: r) σ
      | none => none
    | _ => none
  | _ => none
def rg_put (t : Nat) (x : List (Nat × Nat)) (pc : Nat) (L : rg_L) (st : List Value) (σ : rg_S) : Option rg_O := match st with
  | v :: .ref a :: r => match rg_h σ a with
    | some (.inr (ci, F)) => match rg_lk ci x with
      | some k => if rg_fit t v then rg_go pc L r (rg_set σ a (.inr (ci, va_up F k v))) else none
      | none => none
    | _ => none
  | _ => none
def rg_ial (ks : List Nat) (pc : Nat) (L : rg_L) (st : List Value) (σ : rg_S) : Option rg_O := match st with
  | .int i :: .ref a :: r => match rg_rd σ a with
    | some (.inl (k, n, .inl f)) => if ks.contains k && rg_in i n then rg_go pc L (.int (f i.toNatClampNeg) :: r) σ else none
    | _ => none
  | _ => none
def rg_jal (pc : Nat) (L : rg_L) (st : List Value) (σ : rg_S) : Option rg_O := match st with
  | .int i :: .ref a :: r => match rg_rd σ a with
    | some (.inl (k, n, .inr (.inl f))) => if k == 1 && rg_in i n then rg_go pc L (.long (f i.toNatClampNeg) :: r) σ else none
    | _ => none
  | _ => none
def rg_qal (pc : Nat) (L : rg_L) (st : List Value) (σ : rg_S) : Option rg_O := match st with
  | .int i :: .ref a :: r => match rg_rd σ a with
    | some (.inl (k, n, .inr (.inr (.inr (.inr f))))) => if [4, 5, 6, 7].contains k && rg_in i n then rg_go pc L (va_rf (f i.toNatClampNeg) :: r) σ else none
    | _ => none
  | _ => none
def rg_ias (pc : Nat) (L : rg_L) (st : List Value) (σ : rg_S) : Option rg_O := match st with
  | .int x :: .int i :: .ref a :: r => match rg_h σ a with
    | some (.inl (k, n, .inl f)) => if k == 0 && rg_in i n then rg_go pc L r (rg_set σ a (.inl (0, n, .inl (upd f i.toNatClampNeg x)))) else none
    | _ => none
  | _ => none
def rg_bas (pc : Nat) (L : rg_L) (st : List Value) (σ : rg_S) : Option rg_O := match st with
  | .int x :: .int i :: .ref a :: r => match rg_h σ a with
    | some (.inl (k, n, .inl f)) =>
      if k == 2 && rg_in i n then rg_go pc L r (rg_set σ a (.inl (2, n, .inl (upd f i.toNatClampNeg (vp_nar .byte x)))))
      else if k == 3 && rg_in i n && rg_isb x then rg_go pc L r (rg_set σ a (.inl (3, n, .inl (upd f i.toNatClampNeg x)))) else none
    | _ => none
  | _ => none
def rg_jas (pc : Nat) (L : rg_L) (st : List Value) (σ : rg_S) : Option rg_O := match st with
  | .long x :: .int i :: .ref a :: r => match rg_h σ a with
    | some (.inl (k, n, .inr (.inl f))) => if k == 1 && rg_in i n then rg_go pc L r (rg_set σ a (.inl (1, n, .inr (.inl (vp_updL f i.toNatClampNeg x))))) else none
    | _ => none
  | _ => none
def rg_qas (x : List (Nat × Nat)) (pc : Nat) (L : rg_L) (st : List Value) (σ : rg_S) : Option rg_O := match st with
  | .ref v :: .int i :: .ref a :: r => match rg_h σ a with
    | some (.inl (k, n, .inr (.inr (.inr (.inr f))))) => match rg_rd σ v with
      | some (.inr (ci, _)) => if x.contains (k, ci) && rg_in i n then rg_go pc L r (rg_set σ a (.inl (k, n, .inr (.inr (.inr (.inr (va_up f i.toNatClampNeg (some v)))))))) else none
      | _ => none
    | _ => none
  | .null :: .int i :: .ref a :: r => match rg_h σ a with
    | some (.inl (k, n, .inr (.inr (.inr (.inr f))))) => if [4, 5, 6].contains k && rg_in i n then rg_go pc L r (rg_set σ a (.inl (k, n, .inr (.inr (.inr (.inr (va_up f i.toNatClampNeg none)))))) ) else none
    | _ => none
  | _ => none
def rg_len (pc : Nat) (L : rg_L) (st : List Value) (σ : rg_S) : Option rg_O := match st with
  | .ref a :: r => match rg_rd σ a with
    | some (.inl (k, n, _)) => if k == 8 then none else rg_go pc L (.int (zI n) :: r) σ
    | _ => none
  | _ => none
def rg_arr (k n : Nat) : rg_E := match k with
  | 1 => .inl (1, n, .inr (.inl fun _ => 0))
  | 4 => .inl (4, n, .inr (.inr (.inr (.inr fun _ => none))))
  | 5 => .inl (5, n, .inr (.inr (.inr (.inr fun _ => none))))
  | 6 => .inl (6, n, .inr (.inr (.inr (.inr fun _ => none))))
  | k => .inl (k, n, .inl fun _ => 0)
def rg_nar (k pc : Nat) (L : rg_L) (st : List Value) (σ : rg_S) : Option rg_O := match st with
  | .int i :: r => if decide (¬ i < 0) && decide (i.toNatClampNeg ≤ 60000000) then rg_go pc L (.ref (rg_sz σ) :: r) (rg_new σ (rg_arr k i.toNatClampNeg) i.toNatClampNeg) else none
  | _ => none
/-- fields of a new object: default values by their codes: 0 int, 1 long, 2 boolean, 3 a reference -/
def rg_dv0 : Nat → Value
  | 1 => .long 0
  | 3 => .null
  | _ => .int 0
def rg_cst (x : List (Nat × Nat)) (pc : Nat) (L : rg_L) (st : List Value) (σ : rg_S) : Option rg_O := match st with
  | .ref a :: r => match rg_rd σ a with
    | some (.inr (ci, _)) => match rg_lk ci x with
      | some _ => rg_go pc L (.ref a :: r) σ
      | none => none
    | _ => none
  | .null :: r => rg_go pc L (.null :: r) σ
  | _ => none
def rg_ins (x : List (Nat × Nat)) (pc : Nat) (L : rg_L) (st : List Value) (σ : rg_S) : Option rg_O := match st with
  | .ref a :: r => match rg_rd σ a with
    | some (.inr (ci, _)) => match rg_lk ci x with
      | some b => rg_go pc L (.int (zI b) :: r) σ
      | none => none
    | _ => none
  | _ => none
def rg_ldc (x : List (Nat × Nat)) (pc : Nat) (L : rg_L) (st : List Value) (σ : rg_S) : Option rg_O := match x with
  | [(n, 0)] => rg_go pc L (.int (zI n) :: st) σ
  | [(n, 1)] => rg_go pc L (.int (zI (-(n : Int))) :: st) σ
  | [(n, 2)] => rg_go pc L (rg_st σ n :: st) σ
  | _ => none
def rg_ldc2 (x : List (Nat × Nat)) (pc : Nat) (L : rg_L) (st : List Value) (σ : rg_S) : Option rg_O := match x with
  | [(n, 0)] => rg_go pc L (.long (zL n) :: st) σ
  | [(n, 1)] => rg_go pc L (.long (zL (-(n : Int))) :: st) σ
  | _ => none
/-- a call: the first pair: how many arguments (the receiver apart), 1 if the receiver decides; the second and the rest: class and method -/
def rg_cal (x : List (Nat × Nat)) (pc : Nat) (L : rg_L) (st : List Value) (σ : rg_S) : Option rg_O := match x with
  | (n, m) :: t =>
    if n ≤ st.length then
      (match m with
       | 0 => match t with
         | (y, _) :: _ => if rg_w (st.drop n) ≤ 8 then some (.inr (.inl (y, (st.take n).reverse, pc, st.drop n, σ))) else none
         | [] => none
       | 1 => match st.drop n with
         | .ref b :: r => match rg_rd σ b with
           | some (.inr (ci, _)) => match rg_lk ci t with
             | some y => if rg_w r ≤ 8 then some (.inr (.inl (y, .ref b :: (st.take n).reverse, pc, r, σ))) else none
             | none => none
           | _ => none
         | _ => none
       | 2 => match st.drop n with
         | .ref b :: r => match t with
           | (y, _) :: _ => if rg_w r ≤ 8 then some (.inr (.inl (y, .ref b :: (st.take n).reverse, pc, r, σ))) else none
           | [] => match st with
             | .ref _ :: r0 => if rg_w r0 ≤ 8 then rg_go pc L r0 σ else none
             | _ => none
         | _ => none
       | _ => none)
    else none
  | [] => none
def rg_new1 (x : List (Nat × Nat)) (pc : Nat) (L : rg_L) (st : List Value) (σ : rg_S) : Option rg_O := match x with
  | (ci, n) :: t => rg_go pc L (.ref (rg_sz σ) :: st) (rg_new σ (.inr (ci, rg_f (t.map fun q => rg_dv0 q.1))) n)
  | [] => none
/-- a call site of a lambda: the first pair: its number, how many it keeps -/
def rg_dyn (x : List (Nat × Nat)) (pc : Nat) (L : rg_L) (st : List Value) (σ : rg_S) : Option rg_O := match x with
  | [(s, 0)] => if rg_w st ≤ 8 then rg_go pc L (rg_st σ s :: st) σ else none
  | [(s, 1)] => match st with
    | v :: r => if rg_isr v && decide (rg_w r ≤ 8) then rg_go pc L (.ref (rg_sz σ) :: r) (rg_new σ (.inr (s, rg_f [v])) 1) else none
    | _ => none
  | _ => none
def rg_nul (b : Bool) (t pc : Nat) (L : rg_L) (st : List Value) (σ : rg_S) : Option rg_O := match st with
  | v :: r => if rg_isr v then (if v = .null then rg_go (if b then t else pc) L r σ else rg_go (if b then pc else t) L r σ) else none
  | _ => none
def rg_acm (b : Bool) (t pc : Nat) (L : rg_L) (st : List Value) (σ : rg_S) : Option rg_O := match st with
  | v :: w :: r => if rg_isr v && rg_isr w then (if w = v then rg_go (if b then t else pc) L r σ else rg_go (if b then pc else t) L r σ) else none
  | _ => none
def rg_ret (t : Value → Bool) (st : List Value) (σ : rg_S) : Option rg_O := match st with
  | [v] => if t v then some (.inr (.inr (.inl (some v, σ)))) else none
  | _ => none
/-- what an int method gives back: an int, a boolean (1), a byte (2), a char (3) -/
def rg_isy (k : Nat) (z : Int32) : Bool := if k = 2 then decide (narrow .byte (.int z) = .int z) else if k = 3 then decide (narrow .char (.int z) = .int z) else rg_isb z
def rg_isz (x : List (Nat × Nat)) (v : Value) : Bool := match v with
  | .int z => x.isEmpty || rg_isy (rg_tg x) z
  | _ => false
def rg_do (o : rg_op) (L : rg_L) (st : List Value) (σ : rg_S) : Option rg_O := match o.1 with
  | .iconst n => rg_go o.2.1 L (.int (zI n) :: st) σ
  | .bipush n => rg_go o.2.1 L (.int (zI n) :: st) σ
  | .sipush n => rg_go o.2.1 L (.int (zI n) :: st) σ
  | .lconst n => rg_go o.2.1 L (.long (zL (n.val : Int)) :: st) σ
  | .aconst_null => rg_go o.2.1 L (.null :: st) σ
  | .ldc _ => rg_ldc o.2.2 o.2.1 L st σ
  | .ldc_w _ => rg_ldc o.2.2 o.2.1 L st σ
  | .ldc2_w _ => rg_ldc2 o.2.2 o.2.1 L st σ
  | .iload i => rg_lod rg_isi i o.2.1 L st σ
  | .iload_n i => rg_lod rg_isi i.val o.2.1 L st σ
  | .lload i => rg_lod rg_isj i o.2.1 L st σ
  | .lload_n i => rg_lod rg_isj i.val o.2.1 L st σ
  | .aload i => rg_lod rg_isr i o.2.1 L st σ
  | .aload_n i => rg_lod rg_isr i.val o.2.1 L st σ
  | .istore i => rg_sta rg_isi i o.2.1 L st σ
  | .istore_n i => rg_sta rg_isi i.val o.2.1 L st σ
  | .astore i => rg_sta rg_isr i o.2.1 L st σ
  | .astore_n i => rg_sta rg_isr i.val o.2.1 L st σ
  | .lstore i => rg_stj i o.2.1 L st σ
  | .lstore_n i => rg_stj i.val o.2.1 L st σ
  | .iinc i n => rg_inc i n o.2.1 L st σ
  | .iadd => rg_b2 (fun x y => x + y) o.2.1 L st σ
  | .isub => rg_b2 (fun x y => x - y) o.2.1 L st σ
  | .imul => rg_b2 (fun x y => x * y) o.2.1 L st σ
  | .iand => rg_b2 (fun x y => x &&& y) o.2.1 L st σ
  | .ior => rg_b2 (fun x y => x ||| y) o.2.1 L st σ
  | .ixor => rg_b2 (fun x y => x ^^^ y) o.2.1 L st σ
  | .ishl => rg_b2 (fun x y => x <<< (y &&& 31)) o.2.1 L st σ
  | .ishr => rg_b2 (fun x y => x >>> (y &&& 31)) o.2.1 L st σ
  | .iushr => rg_b2 (fun x y => (x.toUInt32 >>> (y.toUInt32 &&& Int32.toUInt32 31)).toInt32) o.2.1 L st σ
  | .idiv => rg_dv o.2.1 L st σ
  | .ladd => rg_j2 (fun x y => x + y) o.2.1 L st σ
  | .lsub => rg_j2 (fun x y => x - y) o.2.1 L st σ
  | .lmul => rg_j2 (fun x y => x * y) o.2.1 L st σ
  | .land => rg_j2 (fun x y => x &&& y) o.2.1 L st σ
  | .lor => rg_j2 (fun x y => x ||| y) o.2.1 L st σ
  | .lxor => rg_j2 (fun x y => x ^^^ y) o.2.1 L st σ
  | .lshl => rg_js (fun x y => x <<< (y.toInt64 &&& 63)) o.2.1 L st σ
  | .lshr => rg_js (fun x y => x >>> (y.toInt64 &&& 63)) o.2.1 L st σ
  | .lushr => rg_js (fun x y => (x.toUInt64 >>> (y.toInt64.toUInt64 &&& Int64.toUInt64 63)).toInt64) o.2.1 L st σ
  | .ineg => rg_u1 (fun x => -x) o.2.1 L st σ
  | .i2b => rg_u1 (fun x => x.toInt8.toInt32) o.2.1 L st σ
  | .i2c => rg_u1 (fun x => (x.toUInt32 % 65536).toInt32) o.2.1 L st σ
  | .i2l => (match st with
    | .int x :: r => rg_go o.2.1 L (.long x.toInt64 :: r) σ
    | _ => none)
  | .l2i => (match st with
    | .long x :: r => rg_go o.2.1 L (.int x.toInt32 :: r) σ
    | _ => none)
  | .lcmp => (match st with
    | .long y :: .long x :: r => rg_go o.2.1 L (.int (lg_cmp x y) :: r) σ
    | _ => none)
  | .dup => (match st with
    | v :: r => if rg_isl v then none else rg_go o.2.1 L (v :: v :: r) σ
    | _ => none)
  | .pop => (match st with
    | v :: r => if rg_isl v then none else rg_go o.2.1 L r σ
    | _ => none)
  | .dup_x1 => (match st with
    | v :: w :: r => if rg_isl v || rg_isl w then none else rg_go o.2.1 L (v :: w :: v :: r) σ
    | _ => none)
  | .dup2 => (match st with
    | v :: w :: r => if rg_isl v then rg_go o.2.1 L (v :: v :: w :: r) σ else if rg_isl w then none else rg_go o.2.1 L (v :: w :: v :: w :: r) σ
    | _ => none)
  | .ifCond c _ => (match st with
    | .int x :: r => rg_cnd c x (zI 0) (rg_tg o.2.2) o.2.1 L r σ
    | _ => none)
  | .if_icmp c _ => (match st with
    | .int y :: .int x :: r => rg_cnd c x y (rg_tg o.2.2) o.2.1 L r σ
    | _ => none)
  | .goto _ => rg_go (rg_tg o.2.2) L st σ
  | .ifnull _ => rg_nul true (rg_tg o.2.2) o.2.1 L st σ
  | .ifnonnull _ => rg_nul false (rg_tg o.2.2) o.2.1 L st σ
  | .if_acmp c _ => (match c with
    | .eq => rg_acm true (rg_tg o.2.2) o.2.1 L st σ
    | .ne => rg_acm false (rg_tg o.2.2) o.2.1 L st σ)
  | .tableswitch _ lo _ _ => (match st with
    | .int x :: r => rg_go (rg_tsw x lo o.2.2 o.2.1) L r σ
    | _ => none)
  | .getfield _ => rg_get o.2.2 o.2.1 L st σ
  | .putfield _ => rg_put (rg_tg o.2.2) (o.2.2.drop 1) o.2.1 L st σ
  | .getstatic _ => rg_go o.2.1 L (rg_st σ (rg_tg o.2.2) :: st) σ
  | .iaload => rg_ial [0] o.2.1 L st σ
  | .baload => rg_ial [2, 3] o.2.1 L st σ
  | .laload => rg_jal o.2.1 L st σ
  | .aaload => rg_qal o.2.1 L st σ
  | .iastore => rg_ias o.2.1 L st σ
  | .bastore => rg_bas o.2.1 L st σ
  | .lastore => rg_jas o.2.1 L st σ
  | .aastore => rg_qas o.2.2 o.2.1 L st σ
  | .arraylength => rg_len o.2.1 L st σ
  | .newarray _ => rg_nar (rg_tg o.2.2) o.2.1 L st σ
  | .anewarray _ => rg_nar (rg_tg o.2.2) o.2.1 L st σ
  | .new _ => rg_new1 o.2.2 o.2.1 L st σ
  | .checkcast _ => rg_cst o.2.2 o.2.1 L st σ
  | .instanceof _ => rg_ins o.2.2 o.2.1 L st σ
  | .invokestatic _ => rg_cal o.2.2 o.2.1 L st σ
  | .invokevirtual _ => rg_cal o.2.2 o.2.1 L st σ
  | .invokeinterface _ _ => rg_cal o.2.2 o.2.1 L st σ
  | .invokespecial _ => rg_cal o.2.2 o.2.1 L st σ
  | .invokedynamic _ => rg_dyn o.2.2 o.2.1 L st σ
  | .athrow => (match st with
    | .ref q :: _ => some (.inr (.inr (.inr (q, σ))))
    | _ => none)
  | .return_ => (match st with
    | [] => some (.inr (.inr (.inl (none, σ))))
    | _ => none)
  | .ireturn => rg_ret (rg_isz o.2.2) st σ
  | .lreturn => rg_ret rg_isj st σ
  | .areturn => rg_ret rg_isr st σ
  | _ => none
