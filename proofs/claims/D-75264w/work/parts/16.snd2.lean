/-! SOUNDNESS, second: heaps; the rows that write -/
def ja_ft : Nat → FieldType
  | 0 => .int
  | 1 => .byte
  | 2 => .char
  | 3 => .long
  | 4 => .boolean
  | 5 => .object "java/lang/Object"
  | 6 => .object "java/lang/String"
  | _ => .object "BatchRenamer$Piece"
abbrev ja_tys (dA : Nat → ClassId) : List (ClassId × FieldType) := [(dA 0, ja_ft 0), (dA 1, ja_ft 1), (dA 2, ja_ft 2), (dA 3, ja_ft 3), (dA 4, ja_ft 4), (dA 5, ja_ft 5), (dA 6, ja_ft 6), (dA 7, ja_ft 7)]
def ja_noT : u_T := fun _ => ("", "", "", false)
abbrev ja_cls : List vw_C := [(RX1, TX1, 6), (RX2, TX2, 7), (RX3, TX3, 2), (RX4, TX4, 5), (RX8, TX8, 2), (RX9, TX9, 5), (RX10, TX10, 10), (RX11, TX11, 2), (RX12, TX12, 5), (RX13, TX13, 4), (RX6, TX6, 6), (RX7, TX7, 7), (RX5, TX5, 36), (RJ2, TJ2, 3), (RJ22, TJ22, 4), (RJ17, TJ17, 3), (RJ24, TJ24, 4), (RJ8, TJ8, 4), (RJ9, TJ9, 4), ("java/lang/IllegalArgumentException", ja_noT, 0), ("java/lang/IllegalStateException", ja_noT, 0), ("java/lang/IndexOutOfBoundsException", ja_noT, 0)]
/-- how many fields: 30 and on: what a lambda captures -/
def ja_nf (ci : Nat) : Nat := ([6, 7, 2, 5, 2, 5, 10, 2, 5, 4, 6, 7, 36, 3, 4, 3, 4, 4, 4, 0, 0, 0, 0, 0, 0, 0, 0, 0, 0, 0, 1, 0, 1, 2, 2, 2, 3, 2] : List Nat).getD ci 0
def jr_at (D : va_G) (dA : Nat → ClassId) (a : Nat) (c : ja_C) (H : Heap) : Prop := match c with
  | .inl (t, x) => H[a]? = some (vp_cell (dA t) x)
  | .inr (ci, fs) => t_OB a (D.1 ci) (ja_nf ci) (D.2 ci) H (vp_V fs)
def jr_wf (h : ja_H) (c : ja_C) : Prop := match c with
  | .inl (t, n, .inl f) => t ≤ 4 ∧ t ≠ 3 ∧ ∀ j, j < n → fits (ja_ft t) (.int (f j)) = true
  | .inl (t, _, .inr (.inl _)) => t = 3
  | .inl (t, _, .inr (.inr (.inr (.inr f)))) => (5 ≤ t ∧ t ≤ 7) ∧ (t = 5 → ∀ i y, f i = some y → ja_kd (ja_g h y) ≤ 18)
  | .inl _ => False
  | .inr (ci, fs) => fs.length = ja_nf ci ∧ ci < 38
theorem jr_at.kept {D : va_G} {dA : Nat → ClassId} {a : Nat} {c : ja_C} {H H1 : Heap} (h : jr_at D dA a c H) (hq : H1[a]? = H[a]?) : jr_at D dA a c H1 := by
  cases c with
  | inl x => exact hq.trans h
  | inr o => exact t_OB.kept h hq
theorem jr_at.lt {D : va_G} {dA : Nat → ClassId} {a : Nat} {c : ja_C} {H : Heap} (h : jr_at D dA a c H) : a < H.size := by
  cases c with
  | inl x => exact (Array.getElem?_eq_some_iff.mp h).1
  | inr o =>
    obtain ⟨cell, h2, -⟩ := h
    exact (Array.getElem?_eq_some_iff.mp h2).1
def jr_H (D : va_G) (dA : Nat → ClassId) (h : ja_H) (H : Heap) : Prop := H.size = ja_sz h ∧ ∀ a c, ja_g h a = some c → jr_at D dA a c H ∧ jr_wf h c
theorem jr_wf.kept {h h1 : ja_H} {c : ja_C} (hk : ∀ y, ja_kd (ja_g h y) ≤ 18 → ja_kd (ja_g h1 y) ≤ 18) (hw : jr_wf h c) : jr_wf h1 c := by
  rcases c with ⟨t, n, f | f | f | f | f⟩ | ⟨ci, fs⟩
  · exact hw
  · exact hw
  · exact hw
  · exact hw
  · exact ⟨hw.1, fun h5 i y hy => hk y (hw.2 h5 i y hy)⟩
  · exact hw
theorem jr_H.u {D : va_G} {dA : Nat → ClassId} {h : ja_H} {H H1 : Heap} {a : Nat} {c : ja_C} (hH : jr_H D dA h H) (z : H1.size = H.size) (oq : ∀ q : Nat, q ≠ a → H1[q]? = H[q]?) (hc : jr_at D dA a c H1) (hkd : ja_kd (some c) = ja_kd (ja_g h a)) (hw : jr_wf h c) : jr_H D dA (ja_u h a c) H1 := by
  have key : ∀ y, ja_kd (ja_g h y) ≤ 18 → ja_kd (ja_g (ja_u h a c) y) ≤ 18 := by
    intro y hy
    show ja_kd (if y = a then some c else h.1.1 y) ≤ 18
    by_cases e : y = a
    · rw [if_pos e, hkd, ← e]; exact hy
    · rw [if_neg e]; exact hy
  refine ⟨z.trans hH.1, fun q e he => ?_⟩
  have he : (if q = a then some c else h.1.1 q) = some e := he
  by_cases hq : q = a
  · rw [if_pos hq] at he
    cases he
    rw [hq]
    exact ⟨hc, hw.kept key⟩
  · rw [if_neg hq] at he
    exact ⟨(hH.2 q e he).1.kept (oq q hq), (hH.2 q e he).2.kept key⟩
theorem jr_H.n {D : va_G} {dA : Nat → ClassId} {h : ja_H} {H H1 : Heap} {c : ja_C} {k : Nat} (hH : jr_H D dA h H) (z : H1.size = H.size + 1) (oq : ∀ q : Nat, q < H.size → H1[q]? = H[q]?) (hc : jr_at D dA (ja_sz h) c H1) (hw : jr_wf h c) : jr_H D dA (ja_n h c k) H1 := by
  have key : ∀ y, ja_kd (ja_g h y) ≤ 18 → ja_kd (ja_g (ja_n h c k) y) ≤ 18 := by
    intro y hy
    show ja_kd (if y = ja_sz h then some c else h.1.1 y) ≤ 18
    by_cases e : y = ja_sz h
    · exfalso
      cases hg : ja_g h y with
      | none => rw [hg] at hy; exact absurd hy (by decide)
      | some c0 =>
        have h1 := (hH.2 y c0 hg).1.lt
        rw [hH.1] at h1
        omega
    · rw [if_neg e]; exact hy
  refine ⟨by rw [z, hH.1]; rfl, fun q e he => ?_⟩
  have he : (if q = ja_sz h then some c else h.1.1 q) = some e := he
  by_cases hq : q = ja_sz h
  · rw [if_pos hq] at he
    cases he
    rw [hq]
    exact ⟨hc, hw.kept key⟩
  · rw [if_neg hq] at he
    exact ⟨(hH.2 q e he).1.kept (oq q (hH.2 q e he).1.lt), (hH.2 q e he).2.kept key⟩
/-- the object's view of the kit -/
theorem jr_P {D : va_G} {dA : Nat → ClassId} {a ci N : Nat} {C : String} {T : u_T} {fs : List Value} {H : Heap} (h : jr_at D dA a (.inr (ci, fs)) H) (hc : ja_cls[ci]? = some (C, T, N)) (hN : ja_nf ci = N) : va_P D ja_cls [(a, .inr (ci, fs))] H := by
  intro k q hk
  match k, hk with
  | 0, hk => cases hk; exact ⟨_, hc, by subst hN; exact h⟩
  | k + 1, hk => simp at hk
theorem jr_Pa {D : va_G} {dA : Nat → ClassId} {a t : Nat} {x : vp_A} {H : Heap} (h : jr_at D dA a (.inl (t, x)) H) : va_P D ja_cls [(a, .inl (dA t, x))] H := by
  intro k q hk
  match k, hk with
  | 0, hk => cases hk; exact h
  | k + 1, hk => simp at hk
theorem ja_tys_at {dA : Nat → ClassId} {t : Nat} (h : t < 8) : (ja_tys dA)[t]? = some (dA t, ja_ft t) := by
  match t, h with
  | 0, _ => rfl
  | 1, _ => rfl
  | 2, _ => rfl
  | 3, _ => rfl
  | 4, _ => rfl
  | 5, _ => rfl
  | 6, _ => rfl
  | 7, _ => rfl
section SND2
variable {p : Program} {l : Launch} {e : Env} {R : Room} {s : State} {m : MethodId} {args : Array Value} {below : List Frame} {meth : Method} {c : Code} {H : Heap} {locs : List Loc} {cells slots : Nat} {Q : State → Prop}
variable {cc : ByteArray} {pc : Nat} {ls : Array Slot} {rest : List Value} {D : va_G} {dA : Nat → ClassId} {A : Nat → Prop} {a : Nat} {H0 : Heap}
/-- putfield: the value is stored, nothing else changes -/
theorem jw_put {fw : Nat} (hexec : p.tables.exec = Jvm.exec) (hb : c.code = cc) {own ref C host : String} {T : u_T} {N ci index : Nat} (hts : ∀ w ∈ lw_all, w.before args s = true) (hin : ∀ w ∈ u_ws C T N, w ∈ lw_all) (ty0 : Nat → FieldType) (hty : ∀ k, k < N → parseFieldDescriptor (T k).2.2.1 = some (ty0 k)) (hnm : ∀ a, a < N → ∀ b, b < N → a ≠ b → (T a).2.1 ≠ (T b).2.1) (hown : s.vm.findClass own = some m.cls) (hK : va_K D ja_cls (ja_tys dA) s) {fs : List Value} (hP : jr_at D dA a (.inr (ci, fs)) H) (hS0 : va_S A H0 H locs) (haA : A a) (hc : ja_cls[ci]? = some (C, T, N)) (hnf : ja_nf ci = N) (k : Nat) (hk : k < N)
    (hlink : (fw = 0 ∧ (T k).2.2.2 = false ∧ (Cond.fieldLink own index ref (T k).2.1 (T k).2.2.1).before args s = true) ∨ (fw = 1 ∧ (T k).2.2.2 = true ∧ meth.name = "<init>" ∧ (T k).1 = own ∧ (Cond.fieldLink own index ref (T k).2.1 (T k).2.2.1).before args s = true) ∨ (fw = 2 ∧ (T k).2.2.2 = false ∧ (Cond.fieldLinkNest own index ref (T k).2.1 (T k).2.2.1 host).before args s = true))
    (hsame : ∀ x, s.fieldFound? (T k).1 (T k).2.1 (T k).2.2.1 = some x → s.fieldFound? ref (T k).2.1 (T k).2.2.1 = some x) {ty : FieldType} {v : Value} (hd : parseFieldDescriptor (T k).2.2.1 = some ty) (hn : narrow ty v = v) (hfit : fits ty v = true) (hl : k < fs.length)
    (hdg : decode cc pc = .ok (.putfield index, 3)) (kk : ∀ (H1 : Heap) (locs1 : List Loc), H1.size = H.size → (∀ q : Nat, q ≠ a → H1[q]? = H[q]?) → jr_at D dA a (.inr (ci, fs.set k v)) H1 → va_S A H0 H1 locs1 → W p l e R s m args below meth c H1 locs1 cells slots Q (F0 m (pc + 3) ls rest)) : W p l e R s m args below meth c H locs cells slots Q (F0 m pc ls (v :: .ref a :: rest)) := by
  have hap := va_apart (own := own) hts hin ty0 hty hnm hK hc
  obtain ⟨cell, q1, q2, q3, q4⟩ := hP
  rw [hnf] at q4
  obtain ⟨hS, hfc, kC, hkC, hkind⟩ := hK.1 ci _ hc
  obtain ⟨cf, kf, fi, f, hi, hsl⟩ := hS k hk
  have hlay := hts _ (hin _ (u_in_lay hk))
  have hst := (u_facts hfc hkC (u_lays hts hin hk) hi).1
  have fin : ∀ (H' : Heap), H'[a]? = some (cell.setSlot (D.2 ci k) v) → jr_at D dA a (.inr (ci, fs.set k v)) H' := fun H' e1 => by
    show t_OB a (D.1 ci) (ja_nf ci) (D.2 ci) H' (vp_V (fs.set k v))
    rw [hnf]
    exact t_OB.to (V := updV (vp_V fs) k v) ⟨_, e1, q2, q3, t_set q4 hap hk v⟩ (fun j _ => vp_updV_set hl v j)
  rcases hlink with ⟨-, hfin, hlink⟩ | ⟨-, hfin, hin2, hdecl, hlink⟩ | ⟨-, hfin, hlink⟩
  · unfold u_lay at hlay
    rw [if_neg (by rw [hfin]; decide)] at hlay
    have h6 := u_store hfc hkC hkind hlay hi hd hn hfit
    refine W.putK hexec hb (f := f) ⟨hown, hlink, ⟨_, _, _, hsame _ hi⟩, hst⟩ (by rw [q2]; exact h6) q1 q3 (by rw [hsl]; exact k2_hasslot (q4 k hk)) rfl rfl hdg fun H' e1 e2 e3 => ?_
    rw [hsl] at e1 ⊢
    exact kk H' _ e2 e3 (fin H' e1) (hS0.put e2 e3 haA)
  · unfold u_lay at hlay
    rw [if_pos hfin] at hlay
    have hcf : m.cls = cf := by
      obtain ⟨_, _, c', _, _, _, -, -, hf', -, -, -, hown2, -⟩ := Cond.laysFinal_spec hlay
      have e1 : c' = cf := by have := hi.symm.trans hf'; simp at this; exact this.1.symm
      rw [hdecl] at hown2
      rw [← e1]; exact Option.some.inj (hown.symm.trans hown2)
    have h6 := u_fits hfc hkC hkind (Or.inr hlay) hi hd hn hfit
    refine W.putFinK hexec hb hown hlink (hsame _ hi) hst hcf hin2 (by rw [q2]; exact h6) q1 q3 (by rw [hsl]; exact k2_hasslot (q4 k hk)) rfl rfl hdg fun H' e1 e2 e3 => ?_
    rw [hsl] at e1 ⊢
    exact kk H' _ e2 e3 (fin H' e1) (hS0.put e2 e3 haA)
  · unfold u_lay at hlay
    rw [if_neg (by rw [hfin]; decide)] at hlay
    have h6 := u_store hfc hkC hkind hlay hi hd hn hfit
    refine va_WputK hexec hb (f := f) hown hlink (hsame _ hi) hst (by rw [q2]; exact h6) q1 q3 (by rw [hsl]; exact k2_hasslot (q4 k hk)) rfl rfl hdg fun H' e1 e2 e3 => ?_
    rw [hsl] at e1 ⊢
    exact kk H' _ e2 e3 (fin H' e1) (hS0.put e2 e3 haA)
theorem jw_set {cA : ClassId} {n : Nat} {f : Nat → Int32} {i : Int32} {z x : Int32} (hz : z = x) : (vp_cell cA (n, .inl f)).setSlot i.toNatClampNeg (.int z) = vp_cell cA (n, .inl (ja_up f i.toNatClampNeg x)) := by
  subst hz
  rw [vp_cell_i, vp_cell_i, arrV_store]
  congr 2
  funext q
  by_cases hq : q = i.toNatClampNeg
  · subst hq
    simp [updV, ja_up]
  · simp [updV, ja_up, hq]
theorem jw_narB (x : Int32) : narrow .byte (.int x) = .int x.toInt8.toInt32 := rfl
theorem jw_narC (x : Int32) : narrow .char (.int x) = .int (x.toUInt32 % 65536).toInt32 := by
  have h := vp_nar_char x
  rw [show narrow .char (.int x) = .int (vp_nar .char x) from rfl, h]
  congr 1
theorem jw_narZ (x : Int32) : narrow .boolean (.int x) = .int (x &&& 1) := rfl
/-- an int stored in an array of ints, bytes, chars, booleans -/
theorem jw_bst (hexec : p.tables.exec = Jvm.exec) (hb : c.code = cc) (hK : va_K D ja_cls (ja_tys dA) s) (hS : va_S A H0 H locs) (haA : A a) {t n : Nat} {f : Nat → Int32} {z : Int32 → Int32} {ig : Instr} (ha : jr_at D dA a (.inl (t, n, .inl f)) H) {i x : Int32} (hin : vp_in i n)
    (hk : (ig = .iastore ∧ t = 0 ∧ z = fun x => x) ∨ (ig = .castore ∧ t = 2 ∧ z = fun x => (x.toUInt32 % 65536).toInt32) ∨ (ig = .bastore ∧ t = 1 ∧ z = fun x => x.toInt8.toInt32) ∨ (ig = .bastore ∧ t = 4 ∧ z = fun x => x &&& 1)) (hdg : decode cc pc = .ok (ig, 1))
    (kk : ∀ (H1 : Heap) (locs1 : List Loc), H1.size = H.size → (∀ q : Nat, q ≠ a → H1[q]? = H[q]?) → jr_at D dA a (.inl (t, n, .inl (ja_up f i.toNatClampNeg (z x)))) H1 → va_S A H0 H1 locs1 → W p l e R s m args below meth c H1 locs1 cells slots Q (F0 m (pc + 1) ls rest)) : W p l e R s m args below meth c H locs cells slots Q (F0 m pc ls (.int x :: .int i :: .ref a :: rest)) := by
  have hin' : ¬ (i < 0 ∨ (vp_cell (dA t) (n, .inl f)).slots.size ≤ i.toNatClampNeg) := by
    show ¬ (i < 0 ∨ (arrV _ _ _).slots.size ≤ _)
    rw [arrV_size]; exact hin
  rcases hk with ⟨rfl, rfl, rfl⟩ | ⟨rfl, rfl, rfl⟩ | ⟨rfl, rfl, rfl⟩ | ⟨rfl, rfl, rfl⟩
  · refine W.iast hexec hb ha ((hK.2 0 _ (ja_tys_at (by decide))).1 n (fun j => .int (f j))) (fun q => by cases q) hin' rfl rfl hdg fun H1 e z oq => ?_
    exact kk H1 _ z oq (e.trans (congrArg some (jw_set rfl))) (hS.put z oq haA)
  · refine W.cast hexec hb ha ((hK.2 2 _ (ja_tys_at (by decide))).1 n (fun j => .int (f j))) (fun q => by cases q) hin' rfl rfl hdg fun H1 e z oq => ?_
    rw [jw_narC] at e
    exact kk H1 _ z oq (e.trans (congrArg some (jw_set rfl))) (hS.put z oq haA)
  · refine W.bast hexec hb ha ((hK.2 1 _ (ja_tys_at (by decide))).1 n (fun j => .int (f j))) (fun q => by cases q) hin' rfl rfl hdg fun H1 e z oq => ?_
    rw [jw_narB] at e
    exact kk H1 _ z oq (e.trans (congrArg some (jw_set rfl))) (hS.put z oq haA)
  · refine W.zast hexec hb ha ((hK.2 4 _ (ja_tys_at (by decide))).1 n (fun j => .int (f j))) (fun q => by cases q) hin' rfl rfl hdg fun H1 e z oq => ?_
    rw [jw_narZ] at e
    exact kk H1 _ z oq (e.trans (congrArg some (jw_set rfl))) (hS.put z oq haA)
theorem jw_lst (hexec : p.tables.exec = Jvm.exec) (hb : c.code = cc) (hK : va_K D ja_cls (ja_tys dA) s) (hS : va_S A H0 H locs) (haA : A a) {n : Nat} {f : Nat → Int64} (ha : jr_at D dA a (.inl (3, n, .inr (.inl f))) H) {i : Int32} {x : Int64} (hin : vp_in i n) (hdg : decode cc pc = .ok (.lastore, 1))
    (kk : ∀ (H1 : Heap) (locs1 : List Loc), H1.size = H.size → (∀ q : Nat, q ≠ a → H1[q]? = H[q]?) → jr_at D dA a (.inl (3, n, .inr (.inl (vp_updL f i.toNatClampNeg x)))) H1 → va_S A H0 H1 locs1 → W p l e R s m args below meth c H1 locs1 cells slots Q (F0 m (pc + 1) ls rest)) : W p l e R s m args below meth c H locs cells slots Q (F0 m pc ls (.long x :: .int i :: .ref a :: rest)) := by
  refine W.last hexec hb ha ((hK.2 3 _ (ja_tys_at (by decide))).1 n (fun j => .long (f j))) (fun q => by cases q) (by show ¬ (i < 0 ∨ (arrV _ _ _).slots.size ≤ _); rw [arrV_size]; exact hin) rfl rfl hdg fun H1 e z oq => ?_
  refine kk H1 _ z oq (e.trans (congrArg some ?_)) (hS.put z oq haA)
  rw [vp_cell_l, vp_cell_l, arrV_store]
  congr 2
  funext q
  by_cases hq : q = i.toNatClampNeg
  · subst hq
    simp [updV, vp_updL]
  · simp [updV, vp_updL, hq]
/-- a reference stored; what it refers to fits -/
theorem jw_ast (hexec : p.tables.exec = Jvm.exec) (hb : c.code = cc) (hK : va_K D ja_cls (ja_tys dA) s) (hS : va_S A H0 H locs) (haA : A a) {t n v : Nat} {f : Nat → Option Nat} {E : String} (ht : ja_ft t = .object E) (ht8 : t < 8) (ha : jr_at D dA a (.inl (t, n, .inr (.inr (.inr (.inr f))))) H) (hr : va_Any E s H v) {i : Int32} (hin : vp_in i n) (hdg : decode cc pc = .ok (.aastore, 1))
    (kk : ∀ (H1 : Heap) (locs1 : List Loc), H1.size = H.size → (∀ q : Nat, q ≠ a → H1[q]? = H[q]?) → jr_at D dA a (.inl (t, n, .inr (.inr (.inr (.inr (va_up f i.toNatClampNeg (some v))))))) H1 → va_S A H0 H1 locs1 → W p l e R s m args below meth c H1 locs1 cells slots Q (F0 m (pc + 1) ls rest)) : W p l e R s m args below meth c H locs cells slots Q (F0 m pc ls (.ref v :: .int i :: .ref a :: rest)) := by
  have hlt : i.toNatClampNeg < n := Nat.not_le.mp fun q => hin (Or.inr q)
  have h0 : ¬ i < 0 := fun q => hin (Or.inl q)
  obtain ⟨cellV, g1, g3, ⟨kC, hkC⟩, hasg⟩ := hr
  have htys := ja_tys_at (dA := dA) ht8
  rw [ht] at htys
  obtain ⟨kA, comp, k1, k2, k3, -⟩ := (hK.2 t _ htys).2
  obtain ⟨kE, hkE, -⟩ := Vm.findClass_spec k3
  refine W.aast hexec hb ha (fun q h => by cases h) (fun h => by cases h) k1 k2 rfl hkE ⟨h0, by show _ < (arrV _ _ _).slots.size; rw [arrV_size]; exact hlt⟩ g1 (fun q h => by rw [h] at g3; cases g3) hkC (hasg _ k3) rfl rfl hdg fun H1 e z oq => ?_
  refine kk H1 _ z oq (e.trans (congrArg some ?_)) (hS.put z oq haA)
  rw [vp_cell_q, vp_cell_q, arrV_store]
  congr 2
  funext q
  by_cases hq : q = i.toNatClampNeg
  · subst hq
    simp [updV, va_up, va_rf]
  · simp [updV, va_up, hq]
theorem jw_astN (hexec : p.tables.exec = Jvm.exec) (hb : c.code = cc) (hK : va_K D ja_cls (ja_tys dA) s) (hS : va_S A H0 H locs) (haA : A a) {t n : Nat} {f : Nat → Option Nat} {E : String} (ht : ja_ft t = .object E) (ht8 : t < 8) (ha : jr_at D dA a (.inl (t, n, .inr (.inr (.inr (.inr f))))) H) {i : Int32} (hin : vp_in i n) (hdg : decode cc pc = .ok (.aastore, 1))
    (kk : ∀ (H1 : Heap) (locs1 : List Loc), H1.size = H.size → (∀ q : Nat, q ≠ a → H1[q]? = H[q]?) → jr_at D dA a (.inl (t, n, .inr (.inr (.inr (.inr (va_up f i.toNatClampNeg none)))))) H1 → va_S A H0 H1 locs1 → W p l e R s m args below meth c H1 locs1 cells slots Q (F0 m (pc + 1) ls rest)) : W p l e R s m args below meth c H locs cells slots Q (F0 m pc ls (.null :: .int i :: .ref a :: rest)) := by
  have htys := ja_tys_at (dA := dA) ht8
  rw [ht] at htys
  refine va_WaastN (C := E) hexec hb ha ((hK.2 t _ htys).1 n (fun j => va_rf (f j))) (fun h => by cases h) (by show ¬ (i < 0 ∨ (arrV _ _ _).slots.size ≤ _); rw [arrV_size]; exact hin) rfl rfl hdg fun H1 e z oq => ?_
  refine kk H1 _ z oq (e.trans (congrArg some ?_)) (hS.put z oq haA)
  rw [vp_cell_q, vp_cell_q, arrV_store]
  congr 2
  funext q
  by_cases hq : q = i.toNatClampNeg
  · subst hq
    simp [updV, va_up, va_rf]
  · simp [updV, va_up, hq]
theorem va_S.new {A : Nat → Prop} {H0 H H1 : Heap} {locs : List Loc} (hS : va_S A H0 H locs) (z : H1.size = H.size + 1) (oq : ∀ q : Nat, q < H.size → H1[q]? = H[q]?) : va_S A H0 H1 locs := ⟨Nat.le_trans hS.1 (by omega), fun x h1 h2 => (oq x (Nat.lt_of_lt_of_le h1 hS.1)).trans (hS.2.1 x h1 h2), hS.2.2⟩
theorem jw_new (hexec : p.tables.exec = Jvm.exec) (hb : c.code = cc) {own C : String} {T : u_T} {N ci index : Nat} (hts : ∀ w ∈ lw_all, w.before args s = true) (hin : ∀ w ∈ u_ws C T N, w ∈ lw_all) (ty : Nat → FieldType) (hty : ∀ k, k < N → parseFieldDescriptor (T k).2.2.1 = some (ty k)) (hown : s.vm.findClass own = some m.cls) (hcl : (Cond.classLink own index C).before args s = true) (hinst : (Cond.instantiable C N).before args s = true) (hini : (Cond.initialized C).before args s = true)
    (hK : va_K D ja_cls (ja_tys dA) s) (hS : va_S A H0 H locs) (hc : ja_cls[ci]? = some (C, T, N)) (hnf : ja_nf ci = N) {fs : List Value} (hfs : ∀ j, j < N → defaultValue (ty j) = vp_V fs j) (hcells : cells + 1 ≤ R.cells) (hslots : slots + N ≤ R.slots) (hdg : decode cc pc = .ok (.new index, 3))
    (kk : ∀ (H1 : Heap), H1.size = H.size + 1 → (∀ q : Nat, q < H.size → H1[q]? = H[q]?) → jr_at D dA H.size (.inr (ci, fs)) H1 → va_S A H0 H1 locs → W p l e R s m args below meth c H1 locs (cells + 1) (slots + N) Q (F0 m (pc + 3) ls (.ref H.size :: rest))) : W p l e R s m args below meth c H locs cells slots Q (F0 m pc ls rest) := by
  have hKn := hK.1 ci _ hc
  refine W.newcK hexec hb hown hcl hinst hini rfl hdg hcells hslots hKn.2.1 rfl fun H1 kC hkC e1 z1 o1 => ?_
  refine kk H1 z1 o1 ?_ (hS.new z1 o1)
  show t_OB _ _ (ja_nf ci) _ _ _
  rw [hnf]
  exact (u_born ty hts hin hKn hkC e1 hty).to hfs
theorem jw_newa (hexec : p.tables.exec = Jvm.exec) (hb : c.code = cc) {atype : ArrayType} (harr : (Cond.arrayClass (newarray.typeOf atype)).before args s = true) (hK : va_K D ja_cls (ja_tys dA) s) (hS : va_S A H0 H locs) {n : Int32} {t : Nat} (ht : (ja_tys dA)[t]? = some (dA t, newarray.typeOf atype)) {a0 : vp_A} (ha : vp_cell (dA t) a0 = arrV (dA t) n.toNatClampNeg (fun _ => defaultValue (newarray.typeOf atype))) (hn : ¬ n < 0) (hbytes : n.toNatClampNeg * componentBytes (newarray.typeOf atype) ≤ 536870912) (hcells : cells + 1 ≤ R.cells) (hslots : slots + n.toNatClampNeg ≤ R.slots) (hdg : decode cc pc = .ok (.newarray atype, 2))
    (kk : ∀ (H1 : Heap), H1.size = H.size + 1 → (∀ q : Nat, q < H.size → H1[q]? = H[q]?) → jr_at D dA H.size (.inl (t, a0)) H1 → va_S A H0 H1 locs → W p l e R s m args below meth c H1 locs (cells + 1) (slots + n.toNatClampNeg) Q (F0 m (pc + 2) ls (.ref H.size :: rest))) : W p l e R s m args below meth c H locs cells slots Q (F0 m pc ls (.int n :: rest)) := by
  refine va_newaK hexec hb harr rfl hdg rfl hn rfl hbytes hcells hslots rfl fun H1 cA e1 z1 o1 hAr hNm => ?_
  have hcA : cA = dA t := by
    have h1 := (hK.2 t _ ht).2
    have h2 : s.vm.findClass ("[" ++ (newarray.typeOf atype).toString) = some (dA t) := by cases atype <;> exact h1
    have h3 : s.vm.findClass ("[" ++ (newarray.typeOf atype).toString) = some cA := by cases atype <;> exact hNm
    exact Option.some.inj (h3.symm.trans h2)
  subst hcA
  exact kk H1 z1 o1 (show H1[H.size]? = some (vp_cell _ _) by rw [ha]; exact e1) (hS.new z1 o1)
theorem jw_newq (hexec : p.tables.exec = Jvm.exec) (hb : c.code = cc) {own C : String} {index : Nat} (hown : s.vm.findClass own = some m.cls) (hclink : (Cond.classLink own index C).before args s = true) (hover : va_AO C s) (hK : va_K D ja_cls (ja_tys dA) s) (hS : va_S A H0 H locs) {n : Int32} {t : Nat} (ht : (ja_tys dA)[t]? = some (dA t, .object C)) (hn : ¬ n < 0) (hbytes : n.toNatClampNeg * 4 ≤ 536870912) (hcells : cells + 1 ≤ R.cells) (hslots : slots + n.toNatClampNeg ≤ R.slots) (hdg : decode cc pc = .ok (.anewarray index, 3))
    (kk : ∀ (H1 : Heap), H1.size = H.size + 1 → (∀ q : Nat, q < H.size → H1[q]? = H[q]?) → jr_at D dA H.size (.inl (t, ja_zq n.toNatClampNeg)) H1 → va_S A H0 H1 locs → W p l e R s m args below meth c H1 locs (cells + 1) (slots + n.toNatClampNeg) Q (F0 m (pc + 3) ls (.ref H.size :: rest))) : W p l e R s m args below meth c H locs cells slots Q (F0 m pc ls (.int n :: rest)) := by
  refine W.anew hexec hb hown hclink (va_AO.use hover) rfl hdg rfl hn hbytes hcells hslots fun cA kA comp f1 f2 f3 f4 => ?_
  generalize hH1 : H.push ({ cls := cA, slots := Array.replicate n.toNatClampNeg .null, vm := .none } : Cell) = H1
  have z1 : H1.size = H.size + 1 := by rw [← hH1, Array.size_push]
  have e1 : H1[H.size]? = some (arrV cA n.toNatClampNeg (fun _ => .null)) := by rw [← hH1, Array.getElem?_push_size, ← arrV_new]
  have o1 : ∀ q : Nat, q < H.size → H1[q]? = H[q]? := fun q hq => by rw [← hH1, Array.getElem?_push, if_neg (Nat.ne_of_lt hq)]
  have hcA : cA = dA t := by
    obtain ⟨_, _, _, _, _, g⟩ := (hK.2 t _ ht).2
    exact Option.some.inj (f1.symm.trans g)
  subst hcA
  exact kk H1 z1 o1 (show H1[H.size]? = some (vp_cell _ _) from e1) (hS.new z1 o1)
end SND2
