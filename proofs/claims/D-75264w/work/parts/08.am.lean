/-! THE ABSTRACT MACHINE: a small interpreter over the decoded code, the heap a partial map from addresses to cells; what it answers the machine answers (part 'sound') -/
abbrev ja_C : Type := (Nat × vp_A) ⊕ (Nat × List Value)
abbrev ja_H : Type := ((Nat → Option ja_C) × Nat × Nat) × Nat × (Nat → Value)
abbrev ja_L : Type := List (Option Value)
abbrev ja_O : Type := Option Value ⊕ (Nat × Nat)
abbrev ja_X : Type := Option ((Nat × ja_L × List Value × ja_H) ⊕ (Nat × List Value × Nat × List Value × ja_H) ⊕ (Option Value × ja_H) ⊕ (Nat × Nat × ja_H))
def ja_g (h : ja_H) (a : Nat) : Option ja_C := h.1.1 a
def ja_sz (h : ja_H) : Nat := h.1.2.1
def ja_sl (h : ja_H) : Nat := h.1.2.2
def ja_lo (h : ja_H) : Nat := h.2.1
def ja_k (h : ja_H) : Nat → Value := h.2.2
def ja_u (h : ja_H) (a : Nat) (c : ja_C) : ja_H := ((fun q => if q = a then some c else h.1.1 q, h.1.2.1, h.1.2.2), h.2)
def ja_n (h : ja_H) (c : ja_C) (k : Nat) : ja_H := ((fun q => if q = h.1.2.1 then some c else h.1.1 q, h.1.2.1 + 1, h.1.2.2 + k), h.2)
def ja_nx (pc : Nat) (L : ja_L) (st : List Value) (h : ja_H) : ja_X := some (.inl (pc, L, st, h))
def ja_cl (M : Nat) (as : List Value) (pc : Nat) (st : List Value) (h : ja_H) : ja_X := some (.inr (.inl (M, as, pc, st, h)))
def ja_rt (v : Option Value) (h : ja_H) : ja_X := some (.inr (.inr (.inl (v, h))))
def ja_th (E a : Nat) (h : ja_H) : ja_X := some (.inr (.inr (.inr (E, a, h))))
/-- locals -/
def ja_gt : Nat → ja_L → Option Value
  | _, [] => none
  | 0, a :: _ => a
  | k + 1, _ :: l => ja_gt k l
def ja_c2 : Option Value → Bool
  | some (.long _) => true
  | some (.double _) => true
  | _ => false
def ja_cr : Bool → Option Value → Option Value
  | true, _ => none
  | false, a => a
/-- a store of one word -/
def ja_p1 : Nat → Value → ja_L → ja_L
  | _, _, [] => []
  | 0, v, _ :: l => some v :: l
  | 1, v, a :: _ :: l => ja_cr (ja_c2 a) a :: some v :: l
  | 1, _, [a] => [a]
  | k + 2, v, a :: l => a :: ja_p1 (k + 1) v l
/-- a store of two words -/
def ja_p2 : Nat → Value → ja_L → ja_L
  | 0, v, _ :: _ :: l => some v :: none :: l
  | 1, v, a :: _ :: _ :: l => ja_cr (ja_c2 a) a :: some v :: none :: l
  | k + 2, v, a :: l => a :: ja_p2 (k + 1) v l
  | _, _, l => l
def ja_e1 (v : Value) : Option ja_L → Option ja_L
  | some l => some (some v :: l)
  | none => none
def ja_e2 (v : Value) : Option ja_L → Option ja_L
  | some l => some (some v :: none :: l)
  | none => none
/-- the locals at a method's entry -/
def ja_en : Nat → List Value → Option ja_L
  | n, [] => some (List.replicate n none)
  | n + 2, .long x :: r => ja_e2 (.long x) (ja_en n r)
  | n + 2, .double x :: r => ja_e2 (.double x) (ja_en n r)
  | n + 1, .int x :: r => ja_e1 (.int x) (ja_en n r)
  | n + 1, .ref x :: r => ja_e1 (.ref x) (ja_en n r)
  | n + 1, .null :: r => ja_e1 .null (ja_en n r)
  | _, _ => none
/-- pieces of the step -/
def ja_li (v : Option Value) (pc : Nat) (L : ja_L) (st : List Value) (h : ja_H) : ja_X := match v with
  | some (.int x) => ja_nx pc L (.int x :: st) h
  | _ => none
def ja_ll (v : Option Value) (pc : Nat) (L : ja_L) (st : List Value) (h : ja_H) : ja_X := match v with
  | some (.long x) => ja_nx pc L (.long x :: st) h
  | _ => none
def ja_ld (v : Option Value) (pc : Nat) (L : ja_L) (st : List Value) (h : ja_H) : ja_X := match v with
  | some (.double x) => ja_nx pc L (.double x :: st) h
  | _ => none
def ja_la (v : Option Value) (pc : Nat) (L : ja_L) (st : List Value) (h : ja_H) : ja_X := match v with
  | some (.ref x) => ja_nx pc L (.ref x :: st) h
  | some .null => ja_nx pc L (.null :: st) h
  | _ => none
def ja_si (k pc : Nat) (L : ja_L) (st : List Value) (h : ja_H) : ja_X := match st with
  | .int x :: r => if k < L.length then ja_nx pc (ja_p1 k (.int x) L) r h else none
  | _ => none
def ja_sll (k pc : Nat) (L : ja_L) (st : List Value) (h : ja_H) : ja_X := match st with
  | .long x :: r => if k + 1 < L.length then ja_nx pc (ja_p2 k (.long x) L) r h else none
  | _ => none
def ja_sd (k pc : Nat) (L : ja_L) (st : List Value) (h : ja_H) : ja_X := match st with
  | .double x :: r => if k + 1 < L.length then ja_nx pc (ja_p2 k (.double x) L) r h else none
  | _ => none
def ja_sa (k pc : Nat) (L : ja_L) (st : List Value) (h : ja_H) : ja_X := match st with
  | .ref x :: r => if k < L.length then ja_nx pc (ja_p1 k (.ref x) L) r h else none
  | .null :: r => if k < L.length then ja_nx pc (ja_p1 k .null L) r h else none
  | _ => none
def ja_ii (f : Int32 → Int32 → Int32) (pc : Nat) (L : ja_L) (st : List Value) (h : ja_H) : ja_X := match st with
  | .int y :: .int x :: r => ja_nx pc L (.int (f x y) :: r) h
  | _ => none
def ja_i1 (f : Int32 → Value) (pc : Nat) (L : ja_L) (st : List Value) (h : ja_H) : ja_X := match st with
  | .int x :: r => ja_nx pc L (f x :: r) h
  | _ => none
def ja_l1 (f : Int64 → Value) (pc : Nat) (L : ja_L) (st : List Value) (h : ja_H) : ja_X := match st with
  | .long x :: r => ja_nx pc L (f x :: r) h
  | _ => none
def ja_lll (f : Int64 → Int64 → Value) (pc : Nat) (L : ja_L) (st : List Value) (h : ja_H) : ja_X := match st with
  | .long y :: .long x :: r => ja_nx pc L (f x y :: r) h
  | _ => none
def ja_lli (f : Int64 → Int32 → Int64) (pc : Nat) (L : ja_L) (st : List Value) (h : ja_H) : ja_X := match st with
  | .int y :: .long x :: r => ja_nx pc L (.long (f x y) :: r) h
  | _ => none
def ja_dv (f : Int32 → Int32 → Int32) (pc : Nat) (L : ja_L) (st : List Value) (h : ja_H) : ja_X := match st with
  | .int y :: .int x :: r => if y = nI 0 then none else ja_nx pc L (.int (f x y) :: r) h
  | _ => none
def ja_tg (pc : Nat) (off : Int) : Option Nat := if 0 ≤ (pc : Int) + off then some ((pc : Int) + off).toNat else none
def ja_jp (t : Option Nat) (L : ja_L) (st : List Value) (h : ja_H) : ja_X := match t with
  | some t => ja_nx t L st h
  | none => none
def ja_br (c : Prop) [Decidable c] (t : Option Nat) (f : Nat) (L : ja_L) (st : List Value) (h : ja_H) : ja_X := match t with
  | some t => if c then ja_nx t L st h else ja_nx f L st h
  | none => none
def ja_ic (k : Jvm.ClassFile.Cond) (t : Option Nat) (f : Nat) (L : ja_L) (st : List Value) (h : ja_H) : ja_X := match k, st with
  | .eq, .int y :: .int x :: r => ja_br (x = y) t f L r h
  | .ne, .int y :: .int x :: r => ja_br (¬ x = y) t f L r h
  | .lt, .int y :: .int x :: r => ja_br (x < y) t f L r h
  | .ge, .int y :: .int x :: r => ja_br (y ≤ x) t f L r h
  | .gt, .int y :: .int x :: r => ja_br (y < x) t f L r h
  | .le, .int y :: .int x :: r => ja_br (x ≤ y) t f L r h
  | _, _ => none
def ja_i0 (k : Jvm.ClassFile.Cond) (t : Option Nat) (f : Nat) (L : ja_L) (st : List Value) (h : ja_H) : ja_X := match k, st with
  | .eq, .int x :: r => ja_br (x = nI 0) t f L r h
  | .ne, .int x :: r => ja_br (¬ x = nI 0) t f L r h
  | .lt, .int x :: r => ja_br (x < nI 0) t f L r h
  | .ge, .int x :: r => ja_br (nI 0 ≤ x) t f L r h
  | .gt, .int x :: r => ja_br (nI 0 < x) t f L r h
  | .le, .int x :: r => ja_br (x ≤ nI 0) t f L r h
  | _, _ => none
def ja_nu (k : Bool) (t : Option Nat) (f : Nat) (L : ja_L) (st : List Value) (h : ja_H) : ja_X := match k, st with
  | true, .null :: r => ja_jp t L r h
  | true, .ref _ :: r => ja_nx f L r h
  | false, .null :: r => ja_nx f L r h
  | false, .ref _ :: r => ja_jp t L r h
  | _, _ => none
def ja_ac (k : Jvm.ClassFile.ACond) (t : Option Nat) (f : Nat) (L : ja_L) (st : List Value) (h : ja_H) : ja_X := match k, st with
  | .eq, .ref y :: .ref x :: r => ja_br (x = y) t f L r h
  | .ne, .ref y :: .ref x :: r => ja_br (¬ x = y) t f L r h
  | _, _ => none
/-- fields: (class, place, kind); kinds: 0 int, 1 reference, 2 boolean, 3 byte, 4 long, 5 char, 6 double, 9 none -/
def ja_fk : Nat → Value → Bool
  | 0, .int _ => true
  | 1, .ref _ => true
  | 1, .null => true
  | 2, .int x => decide (x = nI 0 ∨ x = nI 1)
  | 3, .int x => decide (x.toInt8.toInt32 = x)
  | 4, .long _ => true
  | 5, .int x => decide ((x.toUInt32 % 65536).toInt32 = x)
  | _, _ => false
def ja_gf1 (c : Option ja_C) (ci k pc : Nat) (L : ja_L) (r : List Value) (h : ja_H) : ja_X := match c with
  | some (.inr (c, fs)) => if c = ci then (match fs[k]? with | some v => ja_nx pc L (v :: r) h | none => none) else none
  | _ => none
def ja_gf (F : Option (Nat × Nat × Nat)) (pc : Nat) (L : ja_L) (st : List Value) (h : ja_H) : ja_X := match F, st with
  | some (ci, k, _), .ref a :: r => ja_gf1 (ja_g h a) ci k pc L r h
  | _, _ => none
def ja_pf1 (c : Option ja_C) (a ci k kd pc : Nat) (v : Value) (L : ja_L) (r : List Value) (h : ja_H) : ja_X := match c with
  | some (.inr (c, fs)) => if c = ci ∧ ja_fk kd v = true ∧ k < fs.length ∧ ja_lo h ≤ a then ja_nx pc L r (ja_u h a (.inr (c, fs.set k v))) else none
  | _ => none
def ja_pf (F : Option (Nat × Nat × Nat)) (pc : Nat) (L : ja_L) (st : List Value) (h : ja_H) : ja_X := match F, st with
  | some (ci, k, kd), v :: .ref a :: r => ja_pf1 (ja_g h a) a ci k kd pc v L r h
  | _, _ => none
/-- constants: a value, or one of the start's, by its number -/
def ja_pc (G : Option (Value ⊕ Nat)) (pc : Nat) (L : ja_L) (st : List Value) (h : ja_H) : ja_X := match G with
  | some (.inl v) => ja_nx pc L (v :: st) h
  | some (.inr j) => ja_nx pc L (ja_k h j :: st) h
  | none => none
def ja_xw (ci pc : Nat) (L : ja_L) (st : List Value) (h : ja_H) : ja_X := if st.length ≤ 4 then ja_nx pc L (.ref (ja_sz h) :: st) (ja_n h (.inr (ci, [])) 6) else none
def ja_nw (X : Option Nat) (N : Option (Nat × List Value × Nat)) (pc : Nat) (L : ja_L) (st : List Value) (h : ja_H) : ja_X := match X, N with
  | some ci, _ => ja_xw ci (pc + 7) L st h
  | none, some (ci, fs, k) => ja_nx (pc + 3) L (.ref (ja_sz h) :: st) (ja_n h (.inr (ci, fs)) k)
  | none, none => none
def ja_na1 (t : Nat) (z : Nat → vp_A) (x : Int32) (pc : Nat) (L : ja_L) (r : List Value) (h : ja_H) : ja_X :=
  if ¬ x < 0 ∧ x.toNatClampNeg ≤ 1000000 then ja_nx pc L (.ref (ja_sz h) :: r) (ja_n h (.inl (t, z x.toNatClampNeg)) x.toNatClampNeg) else none
def ja_na (t : Option Nat) (z : Nat → vp_A) (pc : Nat) (L : ja_L) (st : List Value) (h : ja_H) : ja_X := match t, st with
  | some t, .int x :: r => ja_na1 t z x pc L r h
  | _, _ => none
def ja_zi : Nat → vp_A := fun n => (n, .inl (fun _ => 0))
def ja_zl : Nat → vp_A := fun n => (n, .inr (.inl (fun _ => 0)))
def ja_zq : Nat → vp_A := fun n => (n, .inr (.inr (.inr (.inr (fun _ => none)))))
def ja_ty : ArrayType → Option Nat × (Nat → vp_A)
  | .int => (some 0, ja_zi)
  | .byte => (some 1, ja_zi)
  | .char => (some 2, ja_zi)
  | .long => (some 3, ja_zl)
  | .boolean => (some 4, ja_zi)
  | _ => (none, ja_zi)
def ja_al1 (c : Option ja_C) (pc : Nat) (L : ja_L) (r : List Value) (h : ja_H) : ja_X := match c with
  | some (.inl (_, n, _)) => ja_nx pc L (.int (nI n) :: r) h
  | _ => none
def ja_al (pc : Nat) (L : ja_L) (st : List Value) (h : ja_H) : ja_X := match st with
  | .ref a :: r => ja_al1 (ja_g h a) pc L r h
  | _ => none
def ja_vi (i : Int32) (n : Nat) : Bool := decide (¬ (i < 0 ∨ n ≤ i.toNatClampNeg))
def ja_ai1 (c : Option ja_C) (p : Nat → Bool) (i : Int32) (pc : Nat) (L : ja_L) (r : List Value) (h : ja_H) : ja_X := match c with
  | some (.inl (t, n, .inl f)) => if p t = true ∧ ja_vi i n = true then ja_nx pc L (.int (f i.toNatClampNeg) :: r) h else none
  | _ => none
def ja_ai (p : Nat → Bool) (pc : Nat) (L : ja_L) (st : List Value) (h : ja_H) : ja_X := match st with
  | .int i :: .ref a :: r => ja_ai1 (ja_g h a) p i pc L r h
  | _ => none
def ja_ax1 (c : Option ja_C) (i : Int32) (pc : Nat) (L : ja_L) (r : List Value) (h : ja_H) : ja_X := match c with
  | some (.inl (3, n, .inr (.inl f))) => if ja_vi i n = true then ja_nx pc L (.long (f i.toNatClampNeg) :: r) h else none
  | _ => none
def ja_ax (pc : Nat) (L : ja_L) (st : List Value) (h : ja_H) : ja_X := match st with
  | .int i :: .ref a :: r => ja_ax1 (ja_g h a) i pc L r h
  | _ => none
def ja_aq1 (c : Option ja_C) (i : Int32) (pc : Nat) (L : ja_L) (r : List Value) (h : ja_H) : ja_X := match c with
  | some (.inl (t, n, .inr (.inr (.inr (.inr f))))) => if 5 ≤ t ∧ t ≤ 7 ∧ ja_vi i n = true then ja_nx pc L (va_rf (f i.toNatClampNeg) :: r) h else none
  | _ => none
def ja_aq (pc : Nat) (L : ja_L) (st : List Value) (h : ja_H) : ja_X := match st with
  | .int i :: .ref a :: r => ja_aq1 (ja_g h a) i pc L r h
  | _ => none
def ja_up (f : Nat → Int32) (k : Nat) (x : Int32) : Nat → Int32 := fun j => if j = k then x else f j
/-- stores of ints into arrays of the type t, narrowed by z -/
def ja_bi1 (c : Option ja_C) (a : Nat) (z : Nat → Option (Int32 → Int32)) (i x : Int32) (pc : Nat) (L : ja_L) (r : List Value) (h : ja_H) : ja_X := match c with
  | some (.inl (t, n, .inl f)) => (match z t with
    | some z => if ja_lo h ≤ a ∧ ja_vi i n = true then ja_nx pc L r (ja_u h a (.inl (t, n, .inl (ja_up f i.toNatClampNeg (z x))))) else none
    | none => none)
  | _ => none
def ja_bi (z : Nat → Option (Int32 → Int32)) (pc : Nat) (L : ja_L) (st : List Value) (h : ja_H) : ja_X := match st with
  | .int x :: .int i :: .ref a :: r => ja_bi1 (ja_g h a) a z i x pc L r h
  | _ => none
def ja_zI : Nat → Option (Int32 → Int32)
  | 0 => some (fun x => x)
  | _ => none
def ja_zC : Nat → Option (Int32 → Int32)
  | 2 => some (fun x => (x.toUInt32 % 65536).toInt32)
  | _ => none
def ja_zB : Nat → Option (Int32 → Int32)
  | 1 => some (fun x => x.toInt8.toInt32)
  | 4 => some (fun x => x &&& 1)
  | _ => none
def ja_bx1 (c : Option ja_C) (a : Nat) (i : Int32) (x : Int64) (pc : Nat) (L : ja_L) (r : List Value) (h : ja_H) : ja_X := match c with
  | some (.inl (3, n, .inr (.inl f))) => if ja_lo h ≤ a ∧ ja_vi i n = true then ja_nx pc L r (ja_u h a (.inl (3, n, .inr (.inl (vp_updL f i.toNatClampNeg x))))) else none
  | _ => none
def ja_bx (pc : Nat) (L : ja_L) (st : List Value) (h : ja_H) : ja_X := match st with
  | .long x :: .int i :: .ref a :: r => ja_bx1 (ja_g h a) a i x pc L r h
  | _ => none
/-- a cell's kind: its class's number, or 100 and its array type's -/
def ja_kd : Option ja_C → Nat
  | some (.inl (t, _)) => 100 + t
  | some (.inr (ci, _)) => ci
  | none => 1000
/-- which kinds an array of references takes: of Object all, of String the Strings, of Piece its lambdas -/
def ja_tk : Nat → Nat → Bool
  | 5, k => decide (k ≤ 18)
  | 6, k => decide (k = 18)
  | 7, k => decide (30 ≤ k ∧ k ≤ 32)
  | _, _ => false
def ja_bq1 (c : Option ja_C) (a : Nat) (i : Int32) (v : Option Nat) (ok : Nat → Bool) (pc : Nat) (L : ja_L) (r : List Value) (h : ja_H) : ja_X := match c with
  | some (.inl (t, n, .inr (.inr (.inr (.inr f))))) => if ja_lo h ≤ a ∧ ja_vi i n = true ∧ ok t = true then ja_nx pc L r (ja_u h a (.inl (t, n, .inr (.inr (.inr (.inr (va_up f i.toNatClampNeg v))))))) else none
  | _ => none
def ja_bq (pc : Nat) (L : ja_L) (st : List Value) (h : ja_H) : ja_X := match st with
  | .ref v :: .int i :: .ref a :: r => ja_bq1 (ja_g h a) a i (some v) (fun t => ja_tk t (ja_kd (ja_g h v))) pc L r h
  | .null :: .int i :: .ref a :: r => ja_bq1 (ja_g h a) a i none (fun t => decide (5 ≤ t ∧ t ≤ 7)) pc L r h
  | _ => none
/-- calls -/
def ja_sp : Nat → List Value → List Value → Option (List Value × List Value)
  | 0, as, st => some (as, st)
  | n + 1, as, v :: st => ja_sp n (v :: as) st
  | _ + 1, _, [] => none
def ja_dc (M : Nat) (p : Option (List Value × List Value)) (pc : Nat) (h : ja_H) : ja_X := match p with
  | some (as, r) => if r.length ≤ 4 then ja_cl M as pc r h else none
  | none => none
def ja_ff : List (Nat × Nat) → Nat → Option Nat
  | [], _ => none
  | (a, b) :: l, k => if k = a then some b else ja_ff l k
def ja_vd1 (M : Option Nat) (as r : List Value) (pc : Nat) (h : ja_H) : ja_X := match M with
  | some M => if r.length ≤ 4 then ja_cl M as pc r h else none
  | none => none
def ja_vd (ds : List (Nat × Nat)) (p : Option (List Value × List Value)) (pc : Nat) (h : ja_H) : ja_X := match p with
  | some (.ref a :: as, r) => ja_vd1 (ja_ff ds (ja_kd (ja_g h a))) (.ref a :: as) r pc h
  | _ => none
def ja_ld1 (ds : List (Nat × Nat)) (c : Option ja_C) (as r : List Value) (pc : Nat) (h : ja_H) : ja_X := match c with
  | some (.inr (ci, fs)) => ja_vd1 (ja_ff ds ci) (fs ++ as) r pc h
  | _ => none
def ja_lb (ds : List (Nat × Nat)) (p : Option (List Value × List Value)) (pc : Nat) (h : ja_H) : ja_X := match p with
  | some (.ref a :: as, r) => ja_ld1 ds (ja_g h a) as r pc h
  | _ => none
def ja_co (n sp dp n0 n1 : Nat) : Bool := decide (sp + n ≤ n0 ∧ dp + n ≤ n1)
def ja_cp1 (c0 c1 : Option ja_C) (b : Nat) (sp dp n : Int32) (pc : Nat) (L : ja_L) (r : List Value) (h : ja_H) : ja_X := match c0, c1 with
  | some (.inl (t, n0, .inl f)), some (.inl (t1, n1, .inl g)) => if t = t1 ∧ r.length ≤ 4 ∧ ja_lo h ≤ b ∧ ¬ sp < 0 ∧ ¬ dp < 0 ∧ ¬ n < 0 ∧ ja_co n.toNatClampNeg sp.toNatClampNeg dp.toNatClampNeg n0 n1 = true then
      ja_nx pc L r (ja_u h b (.inl (t1, n1, .inl (va_cpy f g sp.toNatClampNeg dp.toNatClampNeg n.toNatClampNeg)))) else none
  | some (.inl (t, n0, .inr (.inr (.inr (.inr f))))), some (.inl (t1, n1, .inr (.inr (.inr (.inr g))))) => if (t = 5 ∧ t1 = 5) ∧ r.length ≤ 4 ∧ ja_lo h ≤ b ∧ ¬ sp < 0 ∧ ¬ dp < 0 ∧ ¬ n < 0 ∧ ja_co n.toNatClampNeg sp.toNatClampNeg dp.toNatClampNeg n0 n1 = true then
      ja_nx pc L r (ja_u h b (.inl (t1, n1, .inr (.inr (.inr (.inr (va_cpy f g sp.toNatClampNeg dp.toNatClampNeg n.toNatClampNeg))))))) else none
  | _, _ => none
def ja_cp (pc : Nat) (L : ja_L) (st : List Value) (h : ja_H) : ja_X := match st with
  | .int n :: .int dp :: .ref b :: .int sp :: .ref a :: r => ja_cp1 (ja_g h a) (ja_g h b) b sp dp n pc L r h
  | _ => none
def ja_oi (pc : Nat) (L : ja_L) (st : List Value) (h : ja_H) : ja_X := match st with
  | .ref _ :: r => if r.length ≤ 4 then ja_nx pc L r h else none
  | _ => none
def ja_cn1 (t0 : Nat) (c : Option ja_C) (pc : Nat) (L : ja_L) (r : List Value) (h : ja_H) : ja_X := match c with
  | some (.inl (t, n, .inl f)) => if t = t0 ∧ r.length ≤ 4 then ja_nx pc L (.ref (ja_sz h) :: r) (ja_n h (.inl (t, n, .inl f)) n) else none
  | _ => none
def ja_cn (t0 pc : Nat) (L : ja_L) (st : List Value) (h : ja_H) : ja_X := match st with
  | .ref a :: r => ja_cn1 t0 (ja_g h a) pc L r h
  | _ => none
def ja_gc1 (k : Nat) (pc : Nat) (L : ja_L) (r : List Value) (h : ja_H) : ja_X := if k = 105 ∧ r.length ≤ 4 then ja_nx pc L (ja_k h 0 :: r) h else none
def ja_gc (pc : Nat) (L : ja_L) (st : List Value) (h : ja_H) : ja_X := match st with
  | .ref a :: r => ja_gc1 (ja_kd (ja_g h a)) pc L r h
  | _ => none
/-- invocations by their links: (0, method, arguments), (1) arraycopy, (2) Object.<init>, (3) clone, (4) getClass, (5, _, arguments, by the receiver's class), (6, .. a lambda) -/
def ja_iv (V : Option (Nat × Nat × Nat × List (Nat × Nat))) (pc : Nat) (L : ja_L) (st : List Value) (h : ja_H) : ja_X := match V with
  | some (0, M, n, _) => ja_dc M (ja_sp n [] st) pc h
  | some (1, _, _, _) => ja_cp pc L st h
  | some (2, _, _, _) => ja_oi pc L st h
  | some (3, t0, _, _) => ja_cn t0 pc L st h
  | some (4, _, _, _) => ja_gc pc L st h
  | some (5, _, n, ds) => ja_vd ds (ja_sp n [] st) pc h
  | some (6, _, n, ds) => ja_lb ds (ja_sp n [] st) pc h
  | _ => none
def ja_dy1 (ci n : Nat) (p : Option (List Value × List Value)) (pc : Nat) (L : ja_L) (h : ja_H) : ja_X := match p with
  | some (as, r) => if r.length ≤ 4 then ja_nx pc L (.ref (ja_sz h) :: r) (ja_n h (.inr (ci, as)) n) else none
  | none => none
def ja_dy (V : Option (Nat × Nat)) (pc : Nat) (L : ja_L) (st : List Value) (h : ja_H) : ja_X := match V with
  | some (ci, n) => ja_dy1 ci n (ja_sp n [] st) pc L h
  | none => none
def ja_cc (ks : List Nat) (pc : Nat) (L : ja_L) (st : List Value) (h : ja_H) : ja_X := match st with
  | .ref a :: r => if ja_kd (ja_g h a) ∈ ks then ja_nx pc L (.ref a :: r) h else none
  | .null :: r => ja_nx pc L (.null :: r) h
  | _ => none
def ja_io (ks : List Nat) (pc : Nat) (L : ja_L) (st : List Value) (h : ja_H) : ja_X := match st with
  | .ref a :: r => if ja_kd (ja_g h a) ∈ ks then ja_nx pc L (.int 1 :: r) h else none
  | _ => none
def ja_at1 (c : Option ja_C) (a : Nat) (h : ja_H) : ja_X := match c with
  | some (.inr (ci, _)) => if 11 ≤ ci ∧ ci ≤ 21 then ja_th ci a h else none
  | _ => none
def ja_at (st : List Value) (h : ja_H) : ja_X := match st with
  | .ref a :: _ => ja_at1 (ja_g h a) a h
  | _ => none
def ja_ri (kd : Nat) (st : List Value) (h : ja_H) : ja_X := match st with
  | [.int v] => if ja_fk kd (.int v) = true then ja_rt (some (.int v)) h else none
  | _ => none
def ja_ra (kd : Nat) (st : List Value) (h : ja_H) : ja_X := match kd, st with
  | 1, [.ref a] => ja_rt (some (.ref a)) h
  | 1, [.null] => ja_rt (some .null) h
  | _, _ => none
def ja_rv (kd : Nat) (st : List Value) (h : ja_H) : ja_X := match kd, st with
  | 9, [] => ja_rt none h
  | _, _ => none
def ja_rd (kd : Nat) (st : List Value) (h : ja_H) : ja_X := match kd, st with
  | 6, [.double v] => ja_rt (some (.double v)) h
  | _, _ => none
def ja_du (pc : Nat) (L : ja_L) (st : List Value) (h : ja_H) : ja_X := match st with
  | v :: r => if ja_c2 (some v) = true then none else ja_nx pc L (v :: v :: r) h
  | _ => none
def ja_po (pc : Nat) (L : ja_L) (st : List Value) (h : ja_H) : ja_X := match st with
  | v :: r => if ja_c2 (some v) = true then none else ja_nx pc L r h
  | _ => none
def ja_d1 (pc : Nat) (L : ja_L) (st : List Value) (h : ja_H) : ja_X := match st with
  | v :: w :: r => if ja_c2 (some v) = true ∨ ja_c2 (some w) = true then none else ja_nx pc L (v :: w :: v :: r) h
  | _ => none
def ja_d2 (pc : Nat) (L : ja_L) (st : List Value) (h : ja_H) : ja_X := match st with
  | v :: w :: r => if ja_c2 (some v) = true ∨ ja_c2 (some w) = true then none else ja_nx pc L (v :: w :: v :: w :: r) h
  | _ => none
def ja_ts (d : Option Nat) (lo hi : Int) (os : List (Option Nat)) (L : ja_L) (st : List Value) (h : ja_H) : ja_X := match st with
  | .int x :: r => if x.toInt < lo ∨ hi < x.toInt then ja_jp d L r h else (match os[(x.toInt - lo).toNat]? with | some o => ja_jp o L r h | none => none)
  | _ => none
def ja_lf : List (Int × Option Nat) → Option Nat → Int → Option Nat
  | [], d, _ => d
  | (a, o) :: r, d, k => if a = k then o else ja_lf r d k
def ja_ls (b : Bool) (d : Option Nat) (ps : List (Int × Option Nat)) (L : ja_L) (st : List Value) (h : ja_H) : ja_X := match b, st with
  | true, .int x :: r => ja_jp (ja_lf ps d x.toInt) L r h
  | _, _ => none
def ja_so (ps : Array (Int × Int)) : Bool := (ps.toList.zip (ps.toList.drop 1)).all (fun (a, next) => a.1 < next.1)
def ja_inc (v : Option Value) (k : Nat) (c : Int32) (pc : Nat) (L : ja_L) (st : List Value) (h : ja_H) : ja_X := match v with
  | some (.int x) => ja_nx pc (ja_p1 k (.int (x + c)) L) st h
  | _ => none
/-- the length of an instruction -/
def ja_ln : Jvm.ClassFile.Instr → Nat
  | .bipush _ => 2
  | .ldc _ => 2
  | .newarray _ => 2
  | .iload _ => 2
  | .lload _ => 2
  | .dload _ => 2
  | .aload _ => 2
  | .istore _ => 2
  | .lstore _ => 2
  | .dstore _ => 2
  | .astore _ => 2
  | .sipush _ => 3
  | .ldc_w _ => 3
  | .ldc2_w _ => 3
  | .iinc _ _ => 3
  | .if_icmp _ _ => 3
  | .if_acmp _ _ => 3
  | .ifCond _ _ => 3
  | .ifnull _ => 3
  | .ifnonnull _ => 3
  | .goto _ => 3
  | .getfield _ => 3
  | .putfield _ => 3
  | .getstatic _ => 3
  | .invokevirtual _ => 3
  | .invokespecial _ => 3
  | .invokestatic _ => 3
  | .new _ => 3
  | .anewarray _ => 3
  | .checkcast _ => 3
  | .instanceof _ => 3
  | .invokeinterface _ _ => 5
  | .invokedynamic _ => 5
  | .tableswitch _ _ _ _ => 0
  | .lookupswitch _ _ => 0
  | _ => 1
