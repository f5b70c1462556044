/-! SOUNDNESS, eighth: what a run keeps of the heap; handlers; calls -/
def jm (h h' : ja_H) : Prop := ja_sz h ≤ ja_sz h' ∧ ja_sl h ≤ ja_sl h' ∧ h'.2 = h.2
theorem jm.rf {h : ja_H} : jm h h := ⟨Nat.le_refl _, Nat.le_refl _, rfl⟩
theorem jm.tr {a b c : ja_H} (h1 : jm a b) (h2 : jm b c) : jm a c := ⟨Nat.le_trans h1.1 h2.1, Nat.le_trans h1.2.1 h2.2.1, h2.2.2.trans h1.2.2⟩
theorem jm.u {h : ja_H} {a : Nat} {c : ja_C} : jm h (ja_u h a c) := ⟨Nat.le_refl _, Nat.le_refl _, rfl⟩
theorem jm.n {h : ja_H} {c : ja_C} {k : Nat} : jm h (ja_n h c k) := ⟨Nat.le_succ _, Nat.le_add_right _ _, rfl⟩
def jx_m (h : ja_H) (x : ja_X) : Prop := match x with
  | none => True
  | some (.inl (_, _, _, h')) => jm h h'
  | some (.inr (.inl (_, _, _, _, h'))) => h' = h
  | some (.inr (.inr (.inl (_, h')))) => h' = h
  | some (.inr (.inr (.inr (_, _, h')))) => h' = h
theorem jm_li {v : Option Value} {pc : Nat} {L : ja_L} {st : List Value} {h : ja_H} : jx_m h (ja_li v pc L st h) := by
  unfold ja_li
  (repeat' split) <;> first
    | exact True.intro
    | exact jm.rf
    | exact jm.u
    | exact jm.n
    | exact (rfl : _ = _)
theorem jm_ll {v : Option Value} {pc : Nat} {L : ja_L} {st : List Value} {h : ja_H} : jx_m h (ja_ll v pc L st h) := by
  unfold ja_ll
  (repeat' split) <;> first
    | exact True.intro
    | exact jm.rf
    | exact jm.u
    | exact jm.n
    | exact (rfl : _ = _)
theorem jm_ld {v : Option Value} {pc : Nat} {L : ja_L} {st : List Value} {h : ja_H} : jx_m h (ja_ld v pc L st h) := by
  unfold ja_ld
  (repeat' split) <;> first
    | exact True.intro
    | exact jm.rf
    | exact jm.u
    | exact jm.n
    | exact (rfl : _ = _)
theorem jm_la {v : Option Value} {pc : Nat} {L : ja_L} {st : List Value} {h : ja_H} : jx_m h (ja_la v pc L st h) := by
  unfold ja_la
  (repeat' split) <;> first
    | exact True.intro
    | exact jm.rf
    | exact jm.u
    | exact jm.n
    | exact (rfl : _ = _)
theorem jm_si {k pc : Nat} {L : ja_L} {st : List Value} {h : ja_H} : jx_m h (ja_si k pc L st h) := by
  unfold ja_si
  (repeat' split) <;> first
    | exact True.intro
    | exact jm.rf
    | exact jm.u
    | exact jm.n
    | exact (rfl : _ = _)
theorem jm_sll {k pc : Nat} {L : ja_L} {st : List Value} {h : ja_H} : jx_m h (ja_sll k pc L st h) := by
  unfold ja_sll
  (repeat' split) <;> first
    | exact True.intro
    | exact jm.rf
    | exact jm.u
    | exact jm.n
    | exact (rfl : _ = _)
theorem jm_sd {k pc : Nat} {L : ja_L} {st : List Value} {h : ja_H} : jx_m h (ja_sd k pc L st h) := by
  unfold ja_sd
  (repeat' split) <;> first
    | exact True.intro
    | exact jm.rf
    | exact jm.u
    | exact jm.n
    | exact (rfl : _ = _)
theorem jm_sa {k pc : Nat} {L : ja_L} {st : List Value} {h : ja_H} : jx_m h (ja_sa k pc L st h) := by
  unfold ja_sa
  (repeat' split) <;> first
    | exact True.intro
    | exact jm.rf
    | exact jm.u
    | exact jm.n
    | exact (rfl : _ = _)
theorem jm_ii {f : Int32 → Int32 → Int32} {pc : Nat} {L : ja_L} {st : List Value} {h : ja_H} : jx_m h (ja_ii f pc L st h) := by
  unfold ja_ii
  (repeat' split) <;> first
    | exact True.intro
    | exact jm.rf
    | exact jm.u
    | exact jm.n
    | exact (rfl : _ = _)
theorem jm_i1 {f : Int32 → Value} {pc : Nat} {L : ja_L} {st : List Value} {h : ja_H} : jx_m h (ja_i1 f pc L st h) := by
  unfold ja_i1
  (repeat' split) <;> first
    | exact True.intro
    | exact jm.rf
    | exact jm.u
    | exact jm.n
    | exact (rfl : _ = _)
theorem jm_l1 {f : Int64 → Value} {pc : Nat} {L : ja_L} {st : List Value} {h : ja_H} : jx_m h (ja_l1 f pc L st h) := by
  unfold ja_l1
  (repeat' split) <;> first
    | exact True.intro
    | exact jm.rf
    | exact jm.u
    | exact jm.n
    | exact (rfl : _ = _)
theorem jm_lll {f : Int64 → Int64 → Value} {pc : Nat} {L : ja_L} {st : List Value} {h : ja_H} : jx_m h (ja_lll f pc L st h) := by
  unfold ja_lll
  (repeat' split) <;> first
    | exact True.intro
    | exact jm.rf
    | exact jm.u
    | exact jm.n
    | exact (rfl : _ = _)
theorem jm_lli {f : Int64 → Int32 → Int64} {pc : Nat} {L : ja_L} {st : List Value} {h : ja_H} : jx_m h (ja_lli f pc L st h) := by
  unfold ja_lli
  (repeat' split) <;> first
    | exact True.intro
    | exact jm.rf
    | exact jm.u
    | exact jm.n
    | exact (rfl : _ = _)
theorem jm_dv {f : Int32 → Int32 → Int32} {pc : Nat} {L : ja_L} {st : List Value} {h : ja_H} : jx_m h (ja_dv f pc L st h) := by
  unfold ja_dv
  (repeat' split) <;> first
    | exact True.intro
    | exact jm.rf
    | exact jm.u
    | exact jm.n
    | exact (rfl : _ = _)
theorem jm_jp {t : Option Nat} {L : ja_L} {st : List Value} {h : ja_H} : jx_m h (ja_jp t L st h) := by
  unfold ja_jp
  (repeat' split) <;> first
    | exact True.intro
    | exact jm.rf
    | exact jm.u
    | exact jm.n
    | exact (rfl : _ = _)
theorem jm_br {c : Prop} [Decidable c] {t : Option Nat} {f : Nat} {L : ja_L} {st : List Value} {h : ja_H} : jx_m h (ja_br c t f L st h) := by
  unfold ja_br
  (repeat' split) <;> first
    | exact True.intro
    | exact jm.rf
    | exact jm.u
    | exact jm.n
    | exact (rfl : _ = _)
theorem jm_ic {k : Jvm.ClassFile.Cond} {t : Option Nat} {f : Nat} {L : ja_L} {st : List Value} {h : ja_H} : jx_m h (ja_ic k t f L st h) := by
  unfold ja_ic
  (repeat' split) <;> first
    | exact True.intro
    | exact jm.rf
    | exact jm.u
    | exact jm.n
    | exact (rfl : _ = _)
    | exact jm_br
theorem jm_i0 {k : Jvm.ClassFile.Cond} {t : Option Nat} {f : Nat} {L : ja_L} {st : List Value} {h : ja_H} : jx_m h (ja_i0 k t f L st h) := by
  unfold ja_i0
  (repeat' split) <;> first
    | exact True.intro
    | exact jm.rf
    | exact jm.u
    | exact jm.n
    | exact (rfl : _ = _)
    | exact jm_br
theorem jm_nu {k : Bool} {t : Option Nat} {f : Nat} {L : ja_L} {st : List Value} {h : ja_H} : jx_m h (ja_nu k t f L st h) := by
  unfold ja_nu
  (repeat' split) <;> first
    | exact True.intro
    | exact jm.rf
    | exact jm.u
    | exact jm.n
    | exact (rfl : _ = _)
    | exact jm_jp
theorem jm_ac {k : Jvm.ClassFile.ACond} {t : Option Nat} {f : Nat} {L : ja_L} {st : List Value} {h : ja_H} : jx_m h (ja_ac k t f L st h) := by
  unfold ja_ac
  (repeat' split) <;> first
    | exact True.intro
    | exact jm.rf
    | exact jm.u
    | exact jm.n
    | exact (rfl : _ = _)
    | exact jm_br
theorem jm_gf1 {c : Option ja_C} {ci k pc : Nat} {L : ja_L} {r : List Value} {h : ja_H} : jx_m h (ja_gf1 c ci k pc L r h) := by
  unfold ja_gf1
  (repeat' split) <;> first
    | exact True.intro
    | exact jm.rf
    | exact jm.u
    | exact jm.n
    | exact (rfl : _ = _)
theorem jm_gf {F : Option (Nat × Nat × Nat)} {pc : Nat} {L : ja_L} {st : List Value} {h : ja_H} : jx_m h (ja_gf F pc L st h) := by
  unfold ja_gf
  (repeat' split) <;> first
    | exact True.intro
    | exact jm.rf
    | exact jm.u
    | exact jm.n
    | exact (rfl : _ = _)
    | exact jm_gf1
theorem jm_pf1 {c : Option ja_C} {a ci k kd pc : Nat} {v : Value} {L : ja_L} {r : List Value} {h : ja_H} : jx_m h (ja_pf1 c a ci k kd pc v L r h) := by
  unfold ja_pf1
  (repeat' split) <;> first
    | exact True.intro
    | exact jm.rf
    | exact jm.u
    | exact jm.n
    | exact (rfl : _ = _)
theorem jm_pf {F : Option (Nat × Nat × Nat)} {pc : Nat} {L : ja_L} {st : List Value} {h : ja_H} : jx_m h (ja_pf F pc L st h) := by
  unfold ja_pf
  (repeat' split) <;> first
    | exact True.intro
    | exact jm.rf
    | exact jm.u
    | exact jm.n
    | exact (rfl : _ = _)
    | exact jm_pf1
theorem jm_pc {G : Option (Value ⊕ Nat)} {pc : Nat} {L : ja_L} {st : List Value} {h : ja_H} : jx_m h (ja_pc G pc L st h) := by
  unfold ja_pc
  (repeat' split) <;> first
    | exact True.intro
    | exact jm.rf
    | exact jm.u
    | exact jm.n
    | exact (rfl : _ = _)
theorem jm_xw {ci pc : Nat} {L : ja_L} {st : List Value} {h : ja_H} : jx_m h (ja_xw ci pc L st h) := by
  unfold ja_xw
  (repeat' split) <;> first
    | exact True.intro
    | exact jm.rf
    | exact jm.u
    | exact jm.n
    | exact (rfl : _ = _)
theorem jm_nw {X : Option Nat} {N : Option (Nat × List Value × Nat)} {pc : Nat} {L : ja_L} {st : List Value} {h : ja_H} : jx_m h (ja_nw X N pc L st h) := by
  unfold ja_nw
  (repeat' split) <;> first
    | exact True.intro
    | exact jm.rf
    | exact jm.u
    | exact jm.n
    | exact (rfl : _ = _)
    | exact jm_xw
theorem jm_na1 {t : Nat} {z : Nat → vp_A} {x : Int32} {pc : Nat} {L : ja_L} {r : List Value} {h : ja_H} : jx_m h (ja_na1 t z x pc L r h) := by
  unfold ja_na1
  (repeat' split) <;> first
    | exact True.intro
    | exact jm.rf
    | exact jm.u
    | exact jm.n
    | exact (rfl : _ = _)
theorem jm_na {t : Option Nat} {z : Nat → vp_A} {pc : Nat} {L : ja_L} {st : List Value} {h : ja_H} : jx_m h (ja_na t z pc L st h) := by
  unfold ja_na
  (repeat' split) <;> first
    | exact True.intro
    | exact jm.rf
    | exact jm.u
    | exact jm.n
    | exact (rfl : _ = _)
    | exact jm_na1
theorem jm_al1 {c : Option ja_C} {pc : Nat} {L : ja_L} {r : List Value} {h : ja_H} : jx_m h (ja_al1 c pc L r h) := by
  unfold ja_al1
  (repeat' split) <;> first
    | exact True.intro
    | exact jm.rf
    | exact jm.u
    | exact jm.n
    | exact (rfl : _ = _)
theorem jm_al {pc : Nat} {L : ja_L} {st : List Value} {h : ja_H} : jx_m h (ja_al pc L st h) := by
  unfold ja_al
  (repeat' split) <;> first
    | exact True.intro
    | exact jm.rf
    | exact jm.u
    | exact jm.n
    | exact (rfl : _ = _)
    | exact jm_al1
theorem jm_ai1 {c : Option ja_C} {p : Nat → Bool} {i : Int32} {pc : Nat} {L : ja_L} {r : List Value} {h : ja_H} : jx_m h (ja_ai1 c p i pc L r h) := by
  unfold ja_ai1
  (repeat' split) <;> first
    | exact True.intro
    | exact jm.rf
    | exact jm.u
    | exact jm.n
    | exact (rfl : _ = _)
theorem jm_ai {p : Nat → Bool} {pc : Nat} {L : ja_L} {st : List Value} {h : ja_H} : jx_m h (ja_ai p pc L st h) := by
  unfold ja_ai
  (repeat' split) <;> first
    | exact True.intro
    | exact jm.rf
    | exact jm.u
    | exact jm.n
    | exact (rfl : _ = _)
    | exact jm_ai1
theorem jm_ax1 {c : Option ja_C} {i : Int32} {pc : Nat} {L : ja_L} {r : List Value} {h : ja_H} : jx_m h (ja_ax1 c i pc L r h) := by
  unfold ja_ax1
  (repeat' split) <;> first
    | exact True.intro
    | exact jm.rf
    | exact jm.u
    | exact jm.n
    | exact (rfl : _ = _)
theorem jm_ax {pc : Nat} {L : ja_L} {st : List Value} {h : ja_H} : jx_m h (ja_ax pc L st h) := by
  unfold ja_ax
  (repeat' split) <;> first
    | exact True.intro
    | exact jm.rf
    | exact jm.u
    | exact jm.n
    | exact (rfl : _ = _)
    | exact jm_ax1
theorem jm_aq1 {c : Option ja_C} {i : Int32} {pc : Nat} {L : ja_L} {r : List Value} {h : ja_H} : jx_m h (ja_aq1 c i pc L r h) := by
  unfold ja_aq1
  (repeat' split) <;> first
    | exact True.intro
    | exact jm.rf
    | exact jm.u
    | exact jm.n
    | exact (rfl : _ = _)
theorem jm_aq {pc : Nat} {L : ja_L} {st : List Value} {h : ja_H} : jx_m h (ja_aq pc L st h) := by
  unfold ja_aq
  (repeat' split) <;> first
    | exact True.intro
    | exact jm.rf
    | exact jm.u
    | exact jm.n
    | exact (rfl : _ = _)
    | exact jm_aq1
theorem jm_bi1 {c : Option ja_C} {a : Nat} {z : Nat → Option (Int32 → Int32)} {i x : Int32} {pc : Nat} {L : ja_L} {r : List Value} {h : ja_H} : jx_m h (ja_bi1 c a z i x pc L r h) := by
  unfold ja_bi1
  (repeat' split) <;> first
    | exact True.intro
    | exact jm.rf
    | exact jm.u
    | exact jm.n
    | exact (rfl : _ = _)
theorem jm_bi {z : Nat → Option (Int32 → Int32)} {pc : Nat} {L : ja_L} {st : List Value} {h : ja_H} : jx_m h (ja_bi z pc L st h) := by
  unfold ja_bi
  (repeat' split) <;> first
    | exact True.intro
    | exact jm.rf
    | exact jm.u
    | exact jm.n
    | exact (rfl : _ = _)
    | exact jm_bi1
theorem jm_bx1 {c : Option ja_C} {a : Nat} {i : Int32} {x : Int64} {pc : Nat} {L : ja_L} {r : List Value} {h : ja_H} : jx_m h (ja_bx1 c a i x pc L r h) := by
  unfold ja_bx1
  (repeat' split) <;> first
    | exact True.intro
    | exact jm.rf
    | exact jm.u
    | exact jm.n
    | exact (rfl : _ = _)
theorem jm_bx {pc : Nat} {L : ja_L} {st : List Value} {h : ja_H} : jx_m h (ja_bx pc L st h) := by
  unfold ja_bx
  (repeat' split) <;> first
    | exact True.intro
    | exact jm.rf
    | exact jm.u
    | exact jm.n
    | exact (rfl : _ = _)
    | exact jm_bx1
theorem jm_bq1 {c : Option ja_C} {a : Nat} {i : Int32} {v : Option Nat} {ok : Nat → Bool} {pc : Nat} {L : ja_L} {r : List Value} {h : ja_H} : jx_m h (ja_bq1 c a i v ok pc L r h) := by
  unfold ja_bq1
  (repeat' split) <;> first
    | exact True.intro
    | exact jm.rf
    | exact jm.u
    | exact jm.n
    | exact (rfl : _ = _)
theorem jm_bq {pc : Nat} {L : ja_L} {st : List Value} {h : ja_H} : jx_m h (ja_bq pc L st h) := by
  unfold ja_bq
  (repeat' split) <;> first
    | exact True.intro
    | exact jm.rf
    | exact jm.u
    | exact jm.n
    | exact (rfl : _ = _)
    | exact jm_bq1
theorem jm_dc {M : Nat} {p : Option (List Value × List Value)} {pc : Nat} {h : ja_H} : jx_m h (ja_dc M p pc h) := by
  unfold ja_dc
  (repeat' split) <;> first
    | exact True.intro
    | exact jm.rf
    | exact jm.u
    | exact jm.n
    | exact (rfl : _ = _)
theorem jm_vd1 {M : Option Nat} {as r : List Value} {pc : Nat} {h : ja_H} : jx_m h (ja_vd1 M as r pc h) := by
  unfold ja_vd1
  (repeat' split) <;> first
    | exact True.intro
    | exact jm.rf
    | exact jm.u
    | exact jm.n
    | exact (rfl : _ = _)
theorem jm_vd {ds : List (Nat × Nat)} {p : Option (List Value × List Value)} {pc : Nat} {h : ja_H} : jx_m h (ja_vd ds p pc h) := by
  unfold ja_vd
  (repeat' split) <;> first
    | exact True.intro
    | exact jm.rf
    | exact jm.u
    | exact jm.n
    | exact (rfl : _ = _)
    | exact jm_vd1
theorem jm_ld1 {ds : List (Nat × Nat)} {c : Option ja_C} {as r : List Value} {pc : Nat} {h : ja_H} : jx_m h (ja_ld1 ds c as r pc h) := by
  unfold ja_ld1
  (repeat' split) <;> first
    | exact True.intro
    | exact jm.rf
    | exact jm.u
    | exact jm.n
    | exact (rfl : _ = _)
    | exact jm_vd1
theorem jm_lb {ds : List (Nat × Nat)} {p : Option (List Value × List Value)} {pc : Nat} {h : ja_H} : jx_m h (ja_lb ds p pc h) := by
  unfold ja_lb
  (repeat' split) <;> first
    | exact True.intro
    | exact jm.rf
    | exact jm.u
    | exact jm.n
    | exact (rfl : _ = _)
    | exact jm_ld1
theorem jm_cp1 {c0 c1 : Option ja_C} {b : Nat} {sp dp n : Int32} {pc : Nat} {L : ja_L} {r : List Value} {h : ja_H} : jx_m h (ja_cp1 c0 c1 b sp dp n pc L r h) := by
  unfold ja_cp1
  (repeat' split) <;> first
    | exact True.intro
    | exact jm.rf
    | exact jm.u
    | exact jm.n
    | exact (rfl : _ = _)
theorem jm_cp {pc : Nat} {L : ja_L} {st : List Value} {h : ja_H} : jx_m h (ja_cp pc L st h) := by
  unfold ja_cp
  (repeat' split) <;> first
    | exact True.intro
    | exact jm.rf
    | exact jm.u
    | exact jm.n
    | exact (rfl : _ = _)
    | exact jm_cp1
theorem jm_oi {pc : Nat} {L : ja_L} {st : List Value} {h : ja_H} : jx_m h (ja_oi pc L st h) := by
  unfold ja_oi
  (repeat' split) <;> first
    | exact True.intro
    | exact jm.rf
    | exact jm.u
    | exact jm.n
    | exact (rfl : _ = _)
theorem jm_cn1 {t0 : Nat} {c : Option ja_C} {pc : Nat} {L : ja_L} {r : List Value} {h : ja_H} : jx_m h (ja_cn1 t0 c pc L r h) := by
  unfold ja_cn1
  (repeat' split) <;> first
    | exact True.intro
    | exact jm.rf
    | exact jm.u
    | exact jm.n
    | exact (rfl : _ = _)
theorem jm_cn {t0 pc : Nat} {L : ja_L} {st : List Value} {h : ja_H} : jx_m h (ja_cn t0 pc L st h) := by
  unfold ja_cn
  (repeat' split) <;> first
    | exact True.intro
    | exact jm.rf
    | exact jm.u
    | exact jm.n
    | exact (rfl : _ = _)
    | exact jm_cn1
theorem jm_gc1 {k : Nat} {pc : Nat} {L : ja_L} {r : List Value} {h : ja_H} : jx_m h (ja_gc1 k pc L r h) := by
  unfold ja_gc1
  (repeat' split) <;> first
    | exact True.intro
    | exact jm.rf
    | exact jm.u
    | exact jm.n
    | exact (rfl : _ = _)
theorem jm_gc {pc : Nat} {L : ja_L} {st : List Value} {h : ja_H} : jx_m h (ja_gc pc L st h) := by
  unfold ja_gc
  (repeat' split) <;> first
    | exact True.intro
    | exact jm.rf
    | exact jm.u
    | exact jm.n
    | exact (rfl : _ = _)
    | exact jm_gc1
theorem jm_iv {V : Option (Nat × Nat × Nat × List (Nat × Nat))} {pc : Nat} {L : ja_L} {st : List Value} {h : ja_H} : jx_m h (ja_iv V pc L st h) := by
  unfold ja_iv
  (repeat' split) <;> first
    | exact True.intro
    | exact jm.rf
    | exact jm.u
    | exact jm.n
    | exact (rfl : _ = _)
    | exact jm_dc
    | exact jm_vd
    | exact jm_lb
    | exact jm_cp
    | exact jm_oi
    | exact jm_cn
    | exact jm_gc
theorem jm_dy1 {ci n : Nat} {p : Option (List Value × List Value)} {pc : Nat} {L : ja_L} {h : ja_H} : jx_m h (ja_dy1 ci n p pc L h) := by
  unfold ja_dy1
  (repeat' split) <;> first
    | exact True.intro
    | exact jm.rf
    | exact jm.u
    | exact jm.n
    | exact (rfl : _ = _)
theorem jm_dy {V : Option (Nat × Nat)} {pc : Nat} {L : ja_L} {st : List Value} {h : ja_H} : jx_m h (ja_dy V pc L st h) := by
  unfold ja_dy
  (repeat' split) <;> first
    | exact True.intro
    | exact jm.rf
    | exact jm.u
    | exact jm.n
    | exact (rfl : _ = _)
    | exact jm_dy1
theorem jm_cc {ks : List Nat} {pc : Nat} {L : ja_L} {st : List Value} {h : ja_H} : jx_m h (ja_cc ks pc L st h) := by
  unfold ja_cc
  (repeat' split) <;> first
    | exact True.intro
    | exact jm.rf
    | exact jm.u
    | exact jm.n
    | exact (rfl : _ = _)
theorem jm_io {ks : List Nat} {pc : Nat} {L : ja_L} {st : List Value} {h : ja_H} : jx_m h (ja_io ks pc L st h) := by
  unfold ja_io
  (repeat' split) <;> first
    | exact True.intro
    | exact jm.rf
    | exact jm.u
    | exact jm.n
    | exact (rfl : _ = _)
theorem jm_at1 {c : Option ja_C} {a : Nat} {h : ja_H} : jx_m h (ja_at1 c a h) := by
  unfold ja_at1
  (repeat' split) <;> first
    | exact True.intro
    | exact jm.rf
    | exact jm.u
    | exact jm.n
    | exact (rfl : _ = _)
theorem jm_at {st : List Value} {h : ja_H} : jx_m h (ja_at st h) := by
  unfold ja_at
  (repeat' split) <;> first
    | exact True.intro
    | exact jm.rf
    | exact jm.u
    | exact jm.n
    | exact (rfl : _ = _)
    | exact jm_at1
theorem jm_ri {kd : Nat} {st : List Value} {h : ja_H} : jx_m h (ja_ri kd st h) := by
  unfold ja_ri
  (repeat' split) <;> first
    | exact True.intro
    | exact jm.rf
    | exact jm.u
    | exact jm.n
    | exact (rfl : _ = _)
theorem jm_ra {kd : Nat} {st : List Value} {h : ja_H} : jx_m h (ja_ra kd st h) := by
  unfold ja_ra
  (repeat' split) <;> first
    | exact True.intro
    | exact jm.rf
    | exact jm.u
    | exact jm.n
    | exact (rfl : _ = _)
theorem jm_rv {kd : Nat} {st : List Value} {h : ja_H} : jx_m h (ja_rv kd st h) := by
  unfold ja_rv
  (repeat' split) <;> first
    | exact True.intro
    | exact jm.rf
    | exact jm.u
    | exact jm.n
    | exact (rfl : _ = _)
theorem jm_rd {kd : Nat} {st : List Value} {h : ja_H} : jx_m h (ja_rd kd st h) := by
  unfold ja_rd
  (repeat' split) <;> first
    | exact True.intro
    | exact jm.rf
    | exact jm.u
    | exact jm.n
    | exact (rfl : _ = _)
theorem jm_du {pc : Nat} {L : ja_L} {st : List Value} {h : ja_H} : jx_m h (ja_du pc L st h) := by
  unfold ja_du
  (repeat' split) <;> first
    | exact True.intro
    | exact jm.rf
    | exact jm.u
    | exact jm.n
    | exact (rfl : _ = _)
theorem jm_po {pc : Nat} {L : ja_L} {st : List Value} {h : ja_H} : jx_m h (ja_po pc L st h) := by
  unfold ja_po
  (repeat' split) <;> first
    | exact True.intro
    | exact jm.rf
    | exact jm.u
    | exact jm.n
    | exact (rfl : _ = _)
theorem jm_d1 {pc : Nat} {L : ja_L} {st : List Value} {h : ja_H} : jx_m h (ja_d1 pc L st h) := by
  unfold ja_d1
  (repeat' split) <;> first
    | exact True.intro
    | exact jm.rf
    | exact jm.u
    | exact jm.n
    | exact (rfl : _ = _)
theorem jm_d2 {pc : Nat} {L : ja_L} {st : List Value} {h : ja_H} : jx_m h (ja_d2 pc L st h) := by
  unfold ja_d2
  (repeat' split) <;> first
    | exact True.intro
    | exact jm.rf
    | exact jm.u
    | exact jm.n
    | exact (rfl : _ = _)
theorem jm_ts {d : Option Nat} {lo hi : Int} {os : List (Option Nat)} {L : ja_L} {st : List Value} {h : ja_H} : jx_m h (ja_ts d lo hi os L st h) := by
  unfold ja_ts
  (repeat' split) <;> first
    | exact True.intro
    | exact jm.rf
    | exact jm.u
    | exact jm.n
    | exact (rfl : _ = _)
    | exact jm_jp
theorem jm_ls {b : Bool} {d : Option Nat} {ps : List (Int × Option Nat)} {L : ja_L} {st : List Value} {h : ja_H} : jx_m h (ja_ls b d ps L st h) := by
  unfold ja_ls
  (repeat' split) <;> first
    | exact True.intro
    | exact jm.rf
    | exact jm.u
    | exact jm.n
    | exact (rfl : _ = _)
    | exact jm_jp
theorem jm_inc {v : Option Value} {k : Nat} {c : Int32} {pc : Nat} {L : ja_L} {st : List Value} {h : ja_H} : jx_m h (ja_inc v k c pc L st h) := by
  unfold ja_inc
  (repeat' split) <;> first
    | exact True.intro
    | exact jm.rf
    | exact jm.u
    | exact jm.n
    | exact (rfl : _ = _)
theorem jm_dd {pc : Nat} {L : ja_L} {st : List Value} {h : ja_H} : jx_m h (ja_dd pc L st h) := by
  unfold ja_dd
  (repeat' split) <;> first
    | exact True.intro
    | exact jm.rf
    | exact jm.u
    | exact jm.n
    | exact (rfl : _ = _)
theorem jm_dm {op : Jvm.ClassFile.CmpOp} {pc : Nat} {L : ja_L} {st : List Value} {h : ja_H} : jx_m h (ja_dm op pc L st h) := by
  unfold ja_dm
  (repeat' split) <;> first
    | exact True.intro
    | exact jm.rf
    | exact jm.u
    | exact jm.n
    | exact (rfl : _ = _)
theorem jm_ps {t : Bool} {v : Value} {pc : Nat} {L : ja_L} {st : List Value} {h : ja_H} : jx_m h (ja_ps t v pc L st h) := by
  unfold ja_ps
  (repeat' split) <;> first
    | exact True.intro
    | exact jm.rf
    | exact jm.u
    | exact jm.n
    | exact (rfl : _ = _)
theorem jm_p3 {G : Option (Value ⊕ Nat)} {pc : Nat} {L : ja_L} {st : List Value} {h : ja_H} : jx_m h (ja_p3 G pc L st h) := by
  unfold ja_p3
  (repeat' split) <;> first
    | exact True.intro
    | exact jm.rf
    | exact jm.u
    | exact jm.n
    | exact (rfl : _ = _)
theorem jm_p4 {G : Option (Value ⊕ Nat)} {pc : Nat} {L : ja_L} {st : List Value} {h : ja_H} : jx_m h (ja_p4 G pc L st h) := by
  unfold ja_p4
  (repeat' split) <;> first
    | exact True.intro
    | exact jm.rf
    | exact jm.u
    | exact jm.n
    | exact (rfl : _ = _)
theorem jm_di {V : Option (Nat × Nat × Nat)} {pc : Nat} {L : ja_L} {st : List Value} {h : ja_H} : jx_m h (ja_di V pc L st h) := by
  unfold ja_di
  (repeat' split) <;> first
    | exact True.intro
    | exact jm.rf
    | exact jm.u
    | exact jm.n
    | exact (rfl : _ = _)
    | exact jm_dy
theorem jm_s {i : Jvm.ClassFile.Instr} {M pc : Nat} {L : ja_L} {st : List Value} {h : ja_H} : jx_m h (ja_s i M pc L st h) := by
  cases i <;> first
    | exact True.intro
    | exact jm.rf
    | exact jm_li
    | exact jm_ll
    | exact jm_ld
    | exact jm_la
    | exact jm_si
    | exact jm_sll
    | exact jm_sd
    | exact jm_sa
    | exact jm_ii
    | exact jm_i1
    | exact jm_l1
    | exact jm_lll
    | exact jm_lli
    | exact jm_dv
    | exact jm_jp
    | exact jm_br
    | exact jm_ic
    | exact jm_i0
    | exact jm_nu
    | exact jm_ac
    | exact jm_gf1
    | exact jm_gf
    | exact jm_pf1
    | exact jm_pf
    | exact jm_pc
    | exact jm_xw
    | exact jm_nw
    | exact jm_na1
    | exact jm_na
    | exact jm_al1
    | exact jm_al
    | exact jm_ai1
    | exact jm_ai
    | exact jm_ax1
    | exact jm_ax
    | exact jm_aq1
    | exact jm_aq
    | exact jm_bi1
    | exact jm_bi
    | exact jm_bx1
    | exact jm_bx
    | exact jm_bq1
    | exact jm_bq
    | exact jm_dc
    | exact jm_vd1
    | exact jm_vd
    | exact jm_ld1
    | exact jm_lb
    | exact jm_cp1
    | exact jm_cp
    | exact jm_oi
    | exact jm_cn1
    | exact jm_cn
    | exact jm_gc1
    | exact jm_gc
    | exact jm_iv
    | exact jm_dy1
    | exact jm_dy
    | exact jm_cc
    | exact jm_io
    | exact jm_at1
    | exact jm_at
    | exact jm_ri
    | exact jm_ra
    | exact jm_rv
    | exact jm_rd
    | exact jm_du
    | exact jm_po
    | exact jm_d1
    | exact jm_d2
    | exact jm_ts
    | exact jm_ls
    | exact jm_inc
    | exact jm_dd
    | exact jm_dm
    | exact jm_ps
    | exact jm_p3
    | exact jm_p4
    | exact jm_di
theorem jm_st {M pc : Nat} {L : ja_L} {st : List Value} {h : ja_H} : jx_m h (ja_st M pc L st h) := by
  unfold ja_st
  split
  · exact jm_s
  · exact True.intro
theorem jm_run : ∀ (n d M pc : Nat) (L : ja_L) (st : List Value) (h : ja_H) (o : ja_O) (h' : ja_H), ja_run n d M pc L st h = some (o, h') → jm h h' := by
  intro n
  induction n with
  | zero => intro d M pc L st h o h' e; cases e
  | succ n ih =>
    intro d M pc L st h o h' e
    have hm := jm_st (M := M) (pc := pc) (L := L) (st := st) (h := h)
    rw [ja_run] at e
    split at e
    · cases e
    · rename_i e1
      rw [e1] at hm
      exact jm.tr hm (ih _ _ _ _ _ _ _ _ e)
    · rename_i e1
      rw [e1] at hm
      have hm := hm
      cases d with
      | zero => cases e
      | succ d =>
        dsimp only at e
        have key : ∀ (M' : Nat) (as : List Value) (h0 : ja_H) (r : ja_O × ja_H), ja_rn (ja_run n d M' 0) (ja_en (ja_mx M') as) h0 = some r → jm h0 r.2 := by
          intro M' as h0 r e
          cases hL : ja_en (ja_mx M') as with
          | none => rw [hL] at e; cases e
          | some L => rw [hL] at e; exact ih _ _ _ _ _ _ _ _ e
        have hm : _ = h := hm
        subst hm
        split at e
        · cases e
        · rename_i e2
          exact jm.tr (key _ _ _ _ e2) (ih _ _ _ _ _ _ _ _ e)
        · rename_i e2
          have k1 := key _ _ _ _ e2
          split at e
          · exact jm.tr k1 (ih _ _ _ _ _ _ _ _ e)
          · cases e; exact k1
          · cases e
    · rename_i e1
      rw [e1] at hm
      cases e
      have hm : _ = h := hm
      rw [hm]; exact jm.rf
    · rename_i e1
      rw [e1] at hm
      have hm : _ = h := hm
      subst hm
      split at e
      · exact ih _ _ _ _ _ _ _ _ e
      · cases e; exact jm.rf
      · cases e
