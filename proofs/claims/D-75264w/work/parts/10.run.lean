/-! THE STEP, THE RUN, and what a run comes to (ja_W), row by row -/
def ja_dd (pc : Nat) (L : ja_L) (st : List Value) (h : ja_H) : ja_X := match st with
  | .double y :: .double x :: r => if FP.ddiv x y &&& 0x7fffffffffffffff ≤ 0x7ff0000000000000 then ja_nx pc L (.double (FP.ddiv x y) :: r) h else none
  | _ => none
def ja_dm (op : Jvm.ClassFile.CmpOp) (pc : Nat) (L : ja_L) (st : List Value) (h : ja_H) : ja_X := match st with
  | .double y :: .double x :: r => ja_nx pc L (.int (Op.cmpValue (FP.dcmp x y) op) :: r) h
  | _ => none
def ja_ps (t : Bool) (v : Value) (pc : Nat) (L : ja_L) (st : List Value) (h : ja_H) : ja_X := if t = true then ja_nx pc L (v :: st) h else none
def ja_p3 (G : Option (Value ⊕ Nat)) (pc : Nat) (L : ja_L) (st : List Value) (h : ja_H) : ja_X := match G with
  | some (.inl (.long v)) => ja_nx pc L (.long v :: st) h
  | _ => none
def ja_p4 (G : Option (Value ⊕ Nat)) (pc : Nat) (L : ja_L) (st : List Value) (h : ja_H) : ja_X := match G with
  | some (.inl (.int v)) => ja_nx pc L (.int v :: st) h
  | some (.inr j) => ja_nx pc L (ja_k h j :: st) h
  | _ => none
def ja_di (V : Option (Nat × Nat × Nat)) (pc : Nat) (L : ja_L) (st : List Value) (h : ja_H) : ja_X := match V with
  | some (ci, n, 0) => ja_dy (some (ci, n)) pc L st h
  | some (_, _, j + 1) => ja_nx pc L (ja_k h (j + 1) :: st) h
  | none => none
def ja_s (i : Jvm.ClassFile.Instr) (M pc : Nat) (L : ja_L) (st : List Value) (h : ja_H) : ja_X := match i with
  | .aload_n k => ja_la (ja_gt k L) (pc + 1) L st h
  | .aload k => ja_la (ja_gt k L) (pc + 2) L st h
  | .iload_n k => ja_li (ja_gt k L) (pc + 1) L st h
  | .iload k => ja_li (ja_gt k L) (pc + 2) L st h
  | .lload_n k => ja_ll (ja_gt k L) (pc + 1) L st h
  | .lload k => ja_ll (ja_gt k L) (pc + 2) L st h
  | .dload_n k => ja_ld (ja_gt k L) (pc + 1) L st h
  | .dload k => ja_ld (ja_gt k L) (pc + 2) L st h
  | .istore_n k => ja_si k (pc + 1) L st h
  | .istore k => ja_si k (pc + 2) L st h
  | .lstore_n k => ja_sll k (pc + 1) L st h
  | .lstore k => ja_sll k (pc + 2) L st h
  | .dstore_n k => ja_sd k (pc + 1) L st h
  | .dstore k => ja_sd k (pc + 2) L st h
  | .astore_n k => ja_sa k (pc + 1) L st h
  | .astore k => ja_sa k (pc + 2) L st h
  | .iadd => ja_ii (fun x y => x + y) (pc + 1) L st h
  | .isub => ja_ii (fun x y => x - y) (pc + 1) L st h
  | .imul => ja_ii (fun x y => x * y) (pc + 1) L st h
  | .iand => ja_ii (fun x y => x &&& y) (pc + 1) L st h
  | .ior => ja_ii (fun x y => x ||| y) (pc + 1) L st h
  | .ixor => ja_ii (fun x y => x ^^^ y) (pc + 1) L st h
  | .ishl => ja_ii (fun x y => x <<< (y &&& 31)) (pc + 1) L st h
  | .ishr => ja_ii (fun x y => x >>> (y &&& 31)) (pc + 1) L st h
  | .iushr => ja_ii (fun x y => (x.toUInt32 >>> (y.toUInt32 &&& Int32.toUInt32 31)).toInt32) (pc + 1) L st h
  | .idiv => ja_dv (fun x y => x / y) (pc + 1) L st h
  | .irem => ja_dv (fun x y => x - x / y * y) (pc + 1) L st h
  | .i2l => ja_i1 (fun x => .long x.toInt64) (pc + 1) L st h
  | .i2b => ja_i1 (fun x => .int x.toInt8.toInt32) (pc + 1) L st h
  | .i2c => ja_i1 (fun x => .int (x.toUInt32 % 65536).toInt32) (pc + 1) L st h
  | .i2d => ja_i1 (fun x => .double (FP.i2d x)) (pc + 1) L st h
  | .ineg => ja_i1 (fun x => .int (-x)) (pc + 1) L st h
  | .l2i => ja_l1 (fun x => .int x.toInt32) (pc + 1) L st h
  | .lcmp => ja_lll (fun x y => .int (lg_cmp x y)) (pc + 1) L st h
  | .land => ja_lll (fun x y => .long (x &&& y)) (pc + 1) L st h
  | .lor => ja_lll (fun x y => .long (x ||| y)) (pc + 1) L st h
  | .lshl => ja_lli (fun x y => x <<< (y.toInt64 &&& 63)) (pc + 1) L st h
  | .lshr => ja_lli (fun x y => x >>> (y.toInt64 &&& 63)) (pc + 1) L st h
  | .iconst n => ja_nx (pc + 1) L (.int (Int32.ofInt n) :: st) h
  | .bipush n => ja_nx (pc + 2) L (.int (Int8.ofInt n).toInt32 :: st) h
  | .sipush n => ja_nx (pc + 3) L (.int (Int16.ofInt n).toInt32 :: st) h
  | .lconst n => ja_nx (pc + 1) L (.long (Int64.ofNat (n : Nat)) :: st) h
  | .dconst n => ja_ps (decide (n = 0)) (.double FP.dconst0) (pc + 1) L st h
  | .aconst_null => ja_nx (pc + 1) L (.null :: st) h
  | .goto off => ja_jp (ja_tg pc off) L st h
  | .if_icmp k off => ja_ic k (ja_tg pc off) (pc + 3) L st h
  | .ifCond k off => ja_i0 k (ja_tg pc off) (pc + 3) L st h
  | .if_acmp k off => ja_ac k (ja_tg pc off) (pc + 3) L st h
  | .ifnull off => ja_nu true (ja_tg pc off) (pc + 3) L st h
  | .ifnonnull off => ja_nu false (ja_tg pc off) (pc + 3) L st h
  | .getfield k => ja_gf (ja_fy (ja_Tf (ja_ow M) k)) (pc + 3) L st h
  | .putfield k => ja_pf (ja_fz M (ja_Tf (ja_ow M) k)) (pc + 3) L st h
  | .ldc k => ja_p4 (ja_Tc (ja_ow M) k) (pc + 2) L st h
  | .ldc_w k => ja_p4 (ja_Tc (ja_ow M) k) (pc + 3) L st h
  | .ldc2_w k => ja_p3 (ja_Tc (ja_ow M) k) (pc + 3) L st h
  | .getstatic k => ja_pc (ja_Tg (ja_ow M) k) (pc + 3) L st h
  | .new k => ja_nw (ja_xf ja_xs M pc) (ja_Tn (ja_ow M) k) pc L st h
  | .newarray a => ja_na (ja_ty a).1 (ja_ty a).2 (pc + 2) L st h
  | .anewarray k => ja_na (ja_Ta (ja_ow M) k) ja_zq (pc + 3) L st h
  | .arraylength => ja_al (pc + 1) L st h
  | .iaload => ja_ai (fun t => decide (t = 0)) (pc + 1) L st h
  | .baload => ja_ai (fun t => decide (t = 1 ∨ t = 4)) (pc + 1) L st h
  | .caload => ja_ai (fun t => decide (t = 2)) (pc + 1) L st h
  | .laload => ja_ax (pc + 1) L st h
  | .aaload => ja_aq (pc + 1) L st h
  | .iastore => ja_bi ja_zI (pc + 1) L st h
  | .bastore => ja_bi ja_zB (pc + 1) L st h
  | .castore => ja_bi ja_zC (pc + 1) L st h
  | .lastore => ja_bx (pc + 1) L st h
  | .aastore => ja_bq (pc + 1) L st h
  | .invokestatic k => ja_iv (ja_Tis (ja_ow M) k) (pc + 3) L st h
  | .invokespecial k => ja_iv (ja_Tip (ja_ow M) k) (pc + 3) L st h
  | .invokevirtual k => ja_iv (ja_Tiv (ja_ow M) k) (pc + 3) L st h
  | .invokeinterface k _ => ja_iv (ja_Tii (ja_ow M) k) (pc + 5) L st h
  | .invokedynamic k => ja_di (ja_Td (ja_ow M) k) (pc + 5) L st h
  | .checkcast k => ja_cc ((ja_Tk (ja_ow M) k).getD []) (pc + 3) L st h
  | .instanceof k => ja_io ((ja_Tk (ja_ow M) k).getD []) (pc + 3) L st h
  | .athrow => ja_at st h
  | .ireturn => ja_ri (ja_rk M) st h
  | .areturn => ja_ra (ja_rk M) st h
  | .dreturn => ja_rd (ja_rk M) st h
  | .return_ => ja_rv (ja_rk M) st h
  | .dup => ja_du (pc + 1) L st h
  | .pop => ja_po (pc + 1) L st h
  | .dup_x1 => ja_d1 (pc + 1) L st h
  | .dup2 => ja_d2 (pc + 1) L st h
  | .ddiv => ja_dd (pc + 1) L st h
  | .dcmp op => ja_dm op (pc + 1) L st h
  | .iinc k c => ja_inc (ja_gt k L) k (Int32.ofInt c) (pc + 3) L st h
  | .tableswitch d lo hi os => ja_ts (ja_tg pc d) lo hi (os.toList.map (ja_tg pc)) L st h
  | .lookupswitch d ps => ja_ls (ja_so ps) (ja_tg pc d) (ps.toList.map (fun q => (q.1, ja_tg pc q.2))) L st h
  | _ => none
def ja_F (M pc : Nat) : Option Jvm.ClassFile.Instr := match decode (ja_by M) pc with
  | .ok (i, n) => if n = ja_ln i ∨ ja_ln i = 0 then some i else none
  | .error _ => none
theorem ja_Fo {M pc n : Nat} {i : Jvm.ClassFile.Instr} {c : ByteArray} (h : ja_by M = c) (hd : decode c pc = .ok (i, n)) (hl : (decide (n = ja_ln i) || decide (ja_ln i = 0)) = true) : ja_F M pc = some i := by
  unfold ja_F
  rw [h, hd]
  simp only [Bool.or_eq_true, decide_eq_true_eq] at hl
  simp [hl]
def ja_st (M pc : Nat) (L : ja_L) (st : List Value) (h : ja_H) : ja_X := match ja_F M pc with
  | some i => ja_s i M pc L st h
  | none => none
/-- the handler of a thrown E at pc: some (some ..), none covers: some none; not known: none -/
def ja_hf : ja_Hd → Nat → Nat → Option (Option Nat)
  | [], _, _ => some none
  | (a, b, t, c, n) :: l, pc, E => if a ≤ pc ∧ pc < b then (if E ∈ c then some (some t) else if E ∈ n then ja_hf l pc E else none) else ja_hf l pc E
def ja_rn (f : ja_L → List Value → ja_H → Option (ja_O × ja_H)) (L : Option ja_L) (h : ja_H) : Option (ja_O × ja_H) := match L with
  | some L => f L [] h
  | none => none
def ja_run : Nat → Nat → Nat → Nat → ja_L → List Value → ja_H → Option (ja_O × ja_H)
  | 0, _, _, _, _, _, _ => none
  | n + 1, d, M, pc, L, st, h => match ja_st M pc L st h with
    | none => none
    | some (.inl (pc', L', st', h')) => ja_run n d M pc' L' st' h'
    | some (.inr (.inl (M', as, pc', st', h'))) => (match d with
      | 0 => none
      | d + 1 => (match ja_rn (ja_run n d M' 0) (ja_en (ja_mx M') as) h' with
        | none => none
        | some (.inl v, h2) => ja_run n (d + 1) M pc' L (v.toList ++ st') h2
        | some (.inr (E, a), h2) => (match ja_hf (ja_hd M) pc E with
          | some (some t) => ja_run n (d + 1) M t L [.ref a] h2
          | some none => some (.inr (E, a), h2)
          | none => none)))
    | some (.inr (.inr (.inl (v, h')))) => some (.inl v, h')
    | some (.inr (.inr (.inr (E, a, h')))) => (match ja_hf (ja_hd M) pc E with
      | some (some t) => ja_run n d M t L [.ref a] h'
      | some none => some (.inr (E, a), h')
      | none => none)
theorem ja_run_s : ∀ (n d M pc : Nat) (L : ja_L) (st : List Value) (h : ja_H) (r : ja_O × ja_H), ja_run n d M pc L st h = some r → ja_run (n + 1) d M pc L st h = some r := by
  intro n
  induction n with
  | zero => intro d M pc L st h r e; cases e
  | succ n ih =>
    intro d M pc L st h r e
    rw [ja_run] at e ⊢
    split at e
    · cases e
    · exact ih _ _ _ _ _ _ _ e
    · cases d with
      | zero => cases e
      | succ d =>
        dsimp only at e ⊢
        have key : ∀ (M' : Nat) (as : List Value) (h' : ja_H) (r : ja_O × ja_H), ja_rn (ja_run n d M' 0) (ja_en (ja_mx M') as) h' = some r → ja_rn (ja_run (n + 1) d M' 0) (ja_en (ja_mx M') as) h' = some r := by
          intro M' as h' r e
          cases hL : ja_en (ja_mx M') as with
          | none => rw [hL] at e; cases e
          | some L => rw [hL] at e; exact ih _ _ _ _ _ _ _ e
        split at e
        · cases e
        · rename_i e2
          rw [key _ _ _ _ e2]
          exact ih _ _ _ _ _ _ _ e
        · rename_i e2
          rw [key _ _ _ _ e2]
          dsimp only at e ⊢
          split at e
          · exact ih _ _ _ _ _ _ _ e
          · exact e
          · cases e
    · exact e
    · split at e
      · exact ih _ _ _ _ _ _ _ e
      · exact e
      · cases e
theorem ja_run_le {n m d M pc : Nat} {L : ja_L} {st : List Value} {h : ja_H} {r : ja_O × ja_H} (hnm : n ≤ m) (e : ja_run n d M pc L st h = some r) : ja_run m d M pc L st h = some r := by
  induction hnm with
  | refl => exact e
  | step _ ih => exact ja_run_s _ _ _ _ _ _ _ _ ih
/-- from here the method comes to an end of which Q holds, with d calls below it at most -/
def ja_W (d M pc : Nat) (L : ja_L) (st : List Value) (h : ja_H) (Q : ja_O → ja_H → Prop) : Prop := ∃ n r, ja_run n d M pc L st h = some r ∧ Q r.1 r.2
def ja_M0 (d M : Nat) (L : Option ja_L) (h : ja_H) (Q : ja_O → ja_H → Prop) : Prop := match L with
  | some L => ja_W d M 0 L [] h Q
  | none => False
def ja_M (d M : Nat) (as : List Value) (h : ja_H) (Q : ja_O → ja_H → Prop) : Prop := ja_M0 d M (ja_en (ja_mx M) as) h Q
theorem ja_M_run {n d M : Nat} {as : List Value} {h : ja_H} {r : ja_O × ja_H} {Q : ja_O → ja_H → Prop} (e : ja_rn (ja_run n d M 0) (ja_en (ja_mx M) as) h = some r) (q : Q r.1 r.2) : ja_M d M as h Q := by
  unfold ja_M
  cases hL : ja_en (ja_mx M) as with
  | none => rw [hL] at e; cases e
  | some L => rw [hL] at e; exact ⟨n, r, e, q⟩
theorem ja_run_M {d M : Nat} {as : List Value} {h : ja_H} {Q : ja_O → ja_H → Prop} (w : ja_M d M as h Q) : ∃ n r, ja_rn (ja_run n d M 0) (ja_en (ja_mx M) as) h = some r ∧ Q r.1 r.2 := by
  unfold ja_M at w
  cases hL : ja_en (ja_mx M) as with
  | none => rw [hL] at w; exact w.elim
  | some L => rw [hL] at w; exact w
theorem ja_rn_le {n m d M : Nat} {L : Option ja_L} {h : ja_H} {r : ja_O × ja_H} (hnm : n ≤ m) (e : ja_rn (ja_run n d M 0) L h = some r) : ja_rn (ja_run m d M 0) L h = some r := by
  cases L with
  | none => cases e
  | some L => exact ja_run_le hnm e
def ja_E (d M pc : Nat) (L : ja_L) (E a : Nat) (h : ja_H) (Q : ja_O → ja_H → Prop) : Prop := match ja_hf (ja_hd M) pc E with
  | some (some t) => ja_W d M t L [.ref a] h Q
  | some none => Q (.inr (E, a)) h
  | none => False
def ja_R (d M pc pc' : Nat) (L : ja_L) (st : List Value) (Q : ja_O → ja_H → Prop) : ja_O → ja_H → Prop := fun o h => match o with
  | .inl v => ja_W d M pc' L (v.toList ++ st) h Q
  | .inr (E, a) => ja_E d M pc L E a h Q
def ja_N (d M pc : Nat) (L : ja_L) (x : ja_X) (Q : ja_O → ja_H → Prop) : Prop := match x with
  | none => False
  | some (.inl (pc', L', st', h')) => ja_W d M pc' L' st' h' Q
  | some (.inr (.inl (M', as, pc', st', h'))) => (match d with
    | 0 => False
    | d + 1 => ja_M d M' as h' (ja_R (d + 1) M pc pc' L st' Q))
  | some (.inr (.inr (.inl (v, h')))) => Q (.inl v) h'
  | some (.inr (.inr (.inr (E, a, h')))) => ja_E d M pc L E a h' Q
theorem ja_W_eq {d M pc : Nat} {L : ja_L} {st : List Value} {h : ja_H} {Q : ja_O → ja_H → Prop} : ja_W d M pc L st h Q = ja_N d M pc L (ja_st M pc L st h) Q := by
  apply propext
  constructor
  · rintro ⟨n, r, e, q⟩
    cases n with
    | zero => cases e
    | succ n =>
      rw [ja_run] at e
      unfold ja_N
      split at e
      · cases e
      · exact ⟨n, r, e, q⟩
      · cases d with
        | zero => cases e
        | succ d =>
          dsimp only at e ⊢
          split at e
          · cases e
          · rename_i e2
            exact ja_M_run e2 ⟨n, r, e, q⟩
          · rename_i e2
            refine ja_M_run e2 ?_
            show ja_E _ _ _ _ _ _ _ _
            unfold ja_E
            split at e
            · exact ⟨n, r, e, q⟩
            · cases e; exact q
            · cases e
      · cases e; exact q
      · unfold ja_E
        split at e
        · exact ⟨n, r, e, q⟩
        · cases e; exact q
        · cases e
  · intro w
    unfold ja_N at w
    split at w
    · exact w.elim
    · rename_i e1
      obtain ⟨n, r, e, q⟩ := w
      refine ⟨n + 1, r, ?_, q⟩
      rw [ja_run, e1]
      exact e
    · rename_i e1
      cases d with
      | zero => exact w.elim
      | succ d =>
        obtain ⟨n, ⟨o, h2⟩, e, q⟩ := ja_run_M w
        cases o with
        | inl v =>
          obtain ⟨n2, r, e2, q2⟩ := q
          refine ⟨max n n2 + 1, r, ?_, q2⟩
          rw [ja_run, e1]
          dsimp only
          rw [ja_rn_le (Nat.le_max_left n n2) e]
          exact ja_run_le (Nat.le_max_right n n2) e2
        | inr p =>
          obtain ⟨E, a⟩ := p
          have q : ja_E (d + 1) M pc L E a h2 Q := q
          unfold ja_E at q
          split at q
          · rename_i e3
            obtain ⟨n2, r, e2, q2⟩ := q
            refine ⟨max n n2 + 1, r, ?_, q2⟩
            rw [ja_run, e1]
            dsimp only
            rw [ja_rn_le (Nat.le_max_left n n2) e]
            dsimp only
            rw [e3]
            exact ja_run_le (Nat.le_max_right n n2) e2
          · rename_i e3
            refine ⟨n + 1, (.inr (E, a), h2), ?_, q⟩
            rw [ja_run, e1]
            dsimp only
            rw [e]
            dsimp only
            rw [e3]
          · exact q.elim
    · rename_i e1
      refine ⟨1, (_, _), ?_, w⟩
      rw [ja_run, e1]
    · rename_i e1
      unfold ja_E at w
      split at w
      · rename_i e3
        obtain ⟨n, r, e, q⟩ := w
        refine ⟨n + 1, r, ?_, q⟩
        rw [ja_run, e1]
        dsimp only
        rw [e3]
        exact e
      · rename_i e3
        refine ⟨1, (_, _), ?_, w⟩
        rw [ja_run, e1]
        dsimp only
        rw [e3]
      · exact w.elim
theorem ja_go {d M pc : Nat} {L : ja_L} {st : List Value} {h : ja_H} {Q : ja_O → ja_H → Prop} {i : Jvm.ClassFile.Instr} {x : ja_X} (hF : ja_F M pc = some i) (hx : ja_s i M pc L st h = x) : ja_W d M pc L st h Q = ja_N d M pc L x Q := by
  rw [ja_W_eq, ← hx]
  unfold ja_st
  rw [hF]
theorem ja_W.mono {d M pc : Nat} {L : ja_L} {st : List Value} {h : ja_H} {Q Q' : ja_O → ja_H → Prop} (w : ja_W d M pc L st h Q) (hq : ∀ o h', Q o h' → Q' o h') : ja_W d M pc L st h Q' := by
  obtain ⟨n, r, e, q⟩ := w
  exact ⟨n, r, e, hq _ _ q⟩
theorem ja_M.mono {d M : Nat} {as : List Value} {h : ja_H} {Q Q' : ja_O → ja_H → Prop} (w : ja_M d M as h Q) (hq : ∀ o h', Q o h' → Q' o h') : ja_M d M as h Q' := by
  obtain ⟨n, r, e, q⟩ := ja_run_M w
  exact ja_M_run e (hq _ _ q)
/-! ja_N by what the step is -/
theorem jn_nx {d M pc p : Nat} {L L' : ja_L} {st : List Value} {h : ja_H} {Q : ja_O → ja_H → Prop} : ja_N d M pc L (ja_nx p L' st h) Q = ja_W d M p L' st h Q := rfl
theorem jn_cl {d M pc p M' : Nat} {L : ja_L} {as st : List Value} {h : ja_H} {Q : ja_O → ja_H → Prop} : ja_N (d + 1) M pc L (ja_cl M' as p st h) Q = ja_M d M' as h (ja_R (d + 1) M pc p L st Q) := rfl
theorem jn_rt {d M pc : Nat} {L : ja_L} {v : Option Value} {h : ja_H} {Q : ja_O → ja_H → Prop} : ja_N d M pc L (ja_rt v h) Q = Q (.inl v) h := rfl
theorem jn_th {d M pc E a : Nat} {L : ja_L} {h : ja_H} {Q : ja_O → ja_H → Prop} : ja_N d M pc L (ja_th E a h) Q = ja_E d M pc L E a h Q := rfl
theorem jr_v {d M pc p : Nat} {L : ja_L} {st : List Value} {v : Value} {h : ja_H} {Q : ja_O → ja_H → Prop} : ja_R d M pc p L st Q (.inl (some v)) h = ja_W d M p L (v :: st) h Q := rfl
theorem jr_n {d M pc p : Nat} {L : ja_L} {st : List Value} {h : ja_H} {Q : ja_O → ja_H → Prop} : ja_R d M pc p L st Q (.inl none) h = ja_W d M p L st h Q := rfl
theorem jr_x {d M pc p E a : Nat} {L : ja_L} {st : List Value} {h : ja_H} {Q : ja_O → ja_H → Prop} : ja_R d M pc p L st Q (.inr (E, a)) h = ja_E d M pc L E a h Q := rfl
theorem jn_ite {d M pc : Nat} {L : ja_L} {c : Prop} [Decidable c] {x y : ja_X} {Q : ja_O → ja_H → Prop} : ja_N d M pc L (if c then x else y) Q = if c then ja_N d M pc L x Q else ja_N d M pc L y Q := by
  split <;> rfl
