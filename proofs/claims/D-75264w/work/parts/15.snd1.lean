/-! SOUNDNESS, first: locals, heaps, what a step keeps -/
def jl_all : Nat → ja_L → List (Nat × Value)
  | _, [] => []
  | i, some v :: l => (i, v) :: jl_all (i + 1) l
  | i, none :: l => jl_all (i + 1) l
theorem jl_mem {k : Nat} {v : Value} : ∀ (L : ja_L) (i : Nat), (k, v) ∈ jl_all i L ↔ i ≤ k ∧ ja_gt (k - i) L = some v
  | [], i => by simp [jl_all, ja_gt]
  | some w :: l, i => by
    rw [jl_all, List.mem_cons, jl_mem l (i + 1)]
    by_cases hk : k = i
    · subst hk
      rw [Nat.sub_self]
      simp only [ja_gt, Nat.le_refl, true_and]
      constructor
      · rintro (h | ⟨h, -⟩)
        · cases h; rfl
        · omega
      · intro h; cases h; exact Or.inl rfl
    · by_cases hlt : i ≤ k
      · obtain ⟨j, rfl⟩ : ∃ j, k = i + 1 + j := ⟨k - i - 1, by omega⟩
        rw [show i + 1 + j - (i + 1) = j by omega, show i + 1 + j - i = j + 1 by omega]
        simp only [ja_gt]
        constructor
        · rintro (h | ⟨-, h⟩)
          · have := congrArg Prod.fst h; dsimp only at this; omega
          · exact ⟨by omega, h⟩
        · rintro ⟨-, h⟩; exact Or.inr ⟨by omega, h⟩
      · constructor
        · rintro (h | ⟨h, -⟩)
          · cases h; exact absurd rfl hk
          · omega
        · rintro ⟨h, -⟩; omega
  | none :: l, i => by
    rw [jl_all, jl_mem l (i + 1)]
    by_cases hk : k = i
    · subst hk
      rw [Nat.sub_self]
      simp only [ja_gt, Nat.le_refl, true_and]
      constructor
      · rintro ⟨h, -⟩; omega
      · intro h; cases h
    · by_cases hlt : i ≤ k
      · obtain ⟨j, rfl⟩ : ∃ j, k = i + 1 + j := ⟨k - i - 1, by omega⟩
        rw [show i + 1 + j - (i + 1) = j by omega, show i + 1 + j - i = j + 1 by omega]
        simp only [ja_gt]
        constructor
        · rintro ⟨-, h⟩; exact ⟨by omega, h⟩
        · rintro ⟨-, h⟩; exact ⟨by omega, h⟩
      · constructor
        · rintro ⟨h, -⟩; omega
        · rintro ⟨h, -⟩; omega
def jr_L (ls : Array Slot) (n : Nat) (L : ja_L) : Prop := L.length = n ∧ lv_has ls n (jl_all 0 L)
theorem jr_L.at {ls : Array Slot} {n k : Nat} {L : ja_L} {v : Value} (h : jr_L ls n L) (hk : ja_gt k L = some v) : ls[k]? = some (.val v) := h.2.2.2 (k, v) ((jl_mem L 0).mpr ⟨Nat.zero_le _, hk⟩)
theorem jr_L.size {ls : Array Slot} {n : Nat} {L : ja_L} (h : jr_L ls n L) : ls.size = n := h.2.1
theorem ja_c2_cat {v : Value} (h : ja_c2 (some v) = false) : v.category = 1 := by cases v <;> first | rfl | cases h
theorem ja_c2_cat2 {v : Value} (h : ¬ ja_c2 (some v) = true) : v.category = 1 := ja_c2_cat (by simpa using h)
theorem ja_cr_some {a : Option Value} {w : Value} (h : ja_cr (ja_c2 a) a = some w) : a = some w ∧ ¬ w.category = 2 := by
  cases hc : ja_c2 a with
  | true => rw [hc] at h; cases h
  | false =>
    rw [hc] at h
    have h : a = some w := h
    subst h
    exact ⟨rfl, by rw [ja_c2_cat hc]; decide⟩
theorem ja_gt_lt {k : Nat} {v : Value} : ∀ {L : ja_L}, ja_gt k L = some v → k < L.length := by
  induction k with
  | zero => intro L h; cases L with
    | nil => cases h
    | cons a l => simp
  | succ k ih => intro L h; cases L with
    | nil => cases h
    | cons a l => exact Nat.succ_lt_succ (ih h)
theorem ja_p1_get {v w : Value} : ∀ (i : Nat) (L : ja_L) (k : Nat), i < L.length → ja_gt k (ja_p1 i v L) = some w → (k = i ∧ w = v) ∨ (k ≠ i ∧ ja_gt k L = some w ∧ ¬ (k + 1 = i ∧ w.category = 2))
  | _, [], _, h, _ => absurd h (Nat.not_lt_zero _)
  | 0, a :: l, 0, _, h => Or.inl ⟨rfl, (Option.some.inj h).symm⟩
  | 0, a :: l, k + 1, _, h => Or.inr ⟨by omega, h, fun q => by omega⟩
  | 1, [a], _, h, _ => absurd h (by simp)
  | 1, a :: b :: l, 0, _, h => Or.inr ⟨by omega, (ja_cr_some h).1, fun q => (ja_cr_some h).2 q.2⟩
  | 1, a :: b :: l, 1, _, h => Or.inl ⟨rfl, (Option.some.inj h).symm⟩
  | 1, a :: b :: l, k + 2, _, h => Or.inr ⟨by omega, h, fun q => by omega⟩
  | i + 2, a :: l, 0, _, h => Or.inr ⟨by omega, h, fun q => by omega⟩
  | i + 2, a :: l, k + 1, hi, h => by
    have hi : i + 2 < l.length + 1 := hi
    rcases ja_p1_get (i + 1) l k (by omega) h with ⟨h1, h2⟩ | ⟨h1, h2, h3⟩
    · exact Or.inl ⟨by omega, h2⟩
    · exact Or.inr ⟨by omega, h2, fun q => h3 ⟨by omega, q.2⟩⟩
theorem ja_p1_len {v : Value} : ∀ (i : Nat) (L : ja_L), (ja_p1 i v L).length = L.length
  | 0, [] => rfl
  | 0, _ :: _ => rfl
  | 1, [] => rfl
  | 1, [_] => rfl
  | 1, _ :: _ :: _ => rfl
  | i + 2, [] => rfl
  | i + 2, a :: l => by
    show (ja_p1 (i + 1) v l).length + 1 = l.length + 1
    rw [ja_p1_len (i + 1) l]
theorem ja_p2_get {v w : Value} : ∀ (i : Nat) (L : ja_L) (k : Nat), i + 1 < L.length → ja_gt k (ja_p2 i v L) = some w → (k = i ∧ w = v) ∨ (k ≠ i ∧ k ≠ i + 1 ∧ ja_gt k L = some w ∧ ¬ (k + 1 = i ∧ w.category = 2))
  | _, [], _, h, _ => absurd h (Nat.not_lt_zero _)
  | 0, [a], _, h, _ => absurd h (by simp)
  | 0, a :: b :: l, 0, _, h => Or.inl ⟨rfl, (Option.some.inj h).symm⟩
  | 0, a :: b :: l, 1, _, h => by cases h
  | 0, a :: b :: l, k + 2, _, h => Or.inr ⟨by omega, by omega, h, fun q => by omega⟩
  | 1, [a], _, h, _ => absurd h (by simp)
  | 1, [a, b], _, h, _ => absurd h (by simp)
  | 1, a :: b :: c :: l, 0, _, h => Or.inr ⟨by omega, by omega, (ja_cr_some h).1, fun q => (ja_cr_some h).2 q.2⟩
  | 1, a :: b :: c :: l, 1, _, h => Or.inl ⟨rfl, (Option.some.inj h).symm⟩
  | 1, a :: b :: c :: l, 2, _, h => by cases h
  | 1, a :: b :: c :: l, k + 3, _, h => Or.inr ⟨by omega, by omega, h, fun q => by omega⟩
  | i + 2, a :: l, 0, _, h => Or.inr ⟨by omega, by omega, h, fun q => by omega⟩
  | i + 2, a :: l, k + 1, hi, h => by
    have hi : i + 2 + 1 < l.length + 1 := hi
    rcases ja_p2_get (i + 1) l k (by omega) h with ⟨h1, h2⟩ | ⟨h1, h2, h3, h4⟩
    · exact Or.inl ⟨by omega, h2⟩
    · exact Or.inr ⟨by omega, by omega, h3, fun q => h4 ⟨by omega, q.2⟩⟩
theorem ja_p2_len {v : Value} : ∀ (i : Nat) (L : ja_L), (ja_p2 i v L).length = L.length
  | 0, [] => rfl
  | 0, [_] => rfl
  | 0, _ :: _ :: _ => rfl
  | 1, [] => rfl
  | 1, [_] => rfl
  | 1, [_, _] => rfl
  | 1, _ :: _ :: _ :: _ => rfl
  | i + 2, [] => rfl
  | i + 2, a :: l => by
    show (ja_p2 (i + 1) v l).length + 1 = l.length + 1
    rw [ja_p2_len (i + 1) l]
theorem lv_has.sub {ls : Array Slot} {n : Nat} {l l' : List (Nat × Value)} (h : lv_has ls n l) (hs : ∀ q ∈ l', q ∈ l) : lv_has ls n l' := ⟨h.1, h.2.1, fun q hq => h.2.2 q (hs q hq)⟩
theorem jr_L.p1 {ls : Array Slot} {n i : Nat} {v : Value} {L : ja_L} (hi : i < L.length) (h0 : jr_L ls n L) {ls' : Array Slot} (h : lv_has ls' n ((i, v) :: (jl_all 0 L).filter (fun q => !(q.1 == i) && !(q.1 + 1 == i && q.2.category == 2)))) : jr_L ls' n (ja_p1 i v L) := by
  refine ⟨by rw [ja_p1_len]; exact h0.1, h.sub fun q hq => ?_⟩
  obtain ⟨k, w⟩ := q
  have h1 := ((jl_mem (ja_p1 i v L) 0).mp hq).2
  rcases ja_p1_get i L k hi h1 with ⟨e1, e2⟩ | ⟨e1, e2, e3⟩
  · rw [e1, e2]; exact List.mem_cons_self
  · refine List.mem_cons_of_mem _ (List.mem_filter.mpr ⟨(jl_mem L 0).mpr ⟨Nat.zero_le _, e2⟩, ?_⟩)
    simp only [Bool.and_eq_true, Bool.not_eq_true', beq_eq_false_iff_ne, ne_eq, Bool.and_eq_false_iff]
    refine ⟨e1, ?_⟩
    by_cases hk : k + 1 = i
    · exact Or.inr (fun q => e3 ⟨hk, q⟩)
    · exact Or.inl hk
theorem jr_L.p2 {ls : Array Slot} {n i : Nat} {v : Value} {L : ja_L} (hi : i + 1 < L.length) (h0 : jr_L ls n L) {ls' : Array Slot} (h : lv_has ls' n ((i, v) :: (jl_all 0 L).filter (fun q => !(q.1 == i) && (!(q.1 == i + 1) && !(q.1 + 1 == i && q.2.category == 2))))) : jr_L ls' n (ja_p2 i v L) := by
  refine ⟨by rw [ja_p2_len]; exact h0.1, h.sub fun q hq => ?_⟩
  obtain ⟨k, w⟩ := q
  have h1 := ((jl_mem (ja_p2 i v L) 0).mp hq).2
  rcases ja_p2_get i L k hi h1 with ⟨e1, e2⟩ | ⟨e1, e0, e2, e3⟩
  · rw [e1, e2]; exact List.mem_cons_self
  · refine List.mem_cons_of_mem _ (List.mem_filter.mpr ⟨(jl_mem L 0).mpr ⟨Nat.zero_le _, e2⟩, ?_⟩)
    simp only [Bool.and_eq_true, Bool.not_eq_true', beq_eq_false_iff_ne, ne_eq, Bool.and_eq_false_iff]
    refine ⟨e1, e0, ?_⟩
    by_cases hk : k + 1 = i
    · exact Or.inr (fun q => e3 ⟨hk, q⟩)
    · exact Or.inl hk
theorem ja_gt_rep {k n : Nat} : ja_gt k (List.replicate n (none : Option Value)) = none := by
  induction k generalizing n with
  | zero => cases n <;> rfl
  | succ k ih => cases n with
    | zero => rfl
    | succ n => exact ih
theorem lg_sl_cons (v : Value) (r : List Value) : lg_sl (v :: r) = (if v.category = 2 then [Slot.val v, .second] else [.val v]) ++ lg_sl r := by
  simp [lg_sl]
theorem jl_en : ∀ (as : List Value) (n : Nat) (L : ja_L) (i : Nat), ja_en n as = some L → L.length = n ∧ (lg_sl as).length ≤ n ∧ ∀ q ∈ jl_all i L, q ∈ lv_args i as
  | [], n, L, i, h => by
    have h : some (List.replicate n none) = some L := by cases n with
      | zero => exact h
      | succ n => cases n <;> exact h
    cases h
    refine ⟨List.length_replicate, Nat.zero_le _, fun q hq => ?_⟩
    obtain ⟨k, v⟩ := q
    have h1 := ((jl_mem _ i).mp hq).2
    rw [ja_gt_rep] at h1
    cases h1
  | v :: r, n, L, i, h => by
    have one : ∀ (m : Nat) (v : Value), v.category = 1 → n = m + 1 → ja_e1 v (ja_en m r) = some L → L.length = n ∧ (lg_sl (v :: r)).length ≤ n ∧ ∀ q ∈ jl_all i L, q ∈ lv_args i (v :: r) := by
      intro m v hv hn h
      cases hL : ja_en m r with
      | none => rw [hL] at h; cases h
      | some l =>
        rw [hL] at h
        cases h
        obtain ⟨a1, a2, a3⟩ := jl_en r m l (i + 1) hL
        refine ⟨by rw [List.length_cons, a1, hn], by rw [lg_sl_cons, if_neg (by rw [hv]; decide)]; simp; omega, fun q hq => ?_⟩
        rw [lv_args, if_neg (by rw [hv]; decide)]
        rw [jl_all] at hq
        rcases List.mem_cons.mp hq with e | e
        · rw [e]; exact List.mem_cons_self
        · exact List.mem_cons_of_mem _ (a3 q e)
    have two : ∀ (m : Nat) (v : Value), v.category = 2 → n = m + 2 → ja_e2 v (ja_en m r) = some L → L.length = n ∧ (lg_sl (v :: r)).length ≤ n ∧ ∀ q ∈ jl_all i L, q ∈ lv_args i (v :: r) := by
      intro m v hv hn h
      cases hL : ja_en m r with
      | none => rw [hL] at h; cases h
      | some l =>
        rw [hL] at h
        cases h
        obtain ⟨a1, a2, a3⟩ := jl_en r m l (i + 2) hL
        refine ⟨by rw [List.length_cons, List.length_cons, a1, hn], by rw [lg_sl_cons, if_pos hv]; simp; omega, fun q hq => ?_⟩
        rw [lv_args, if_pos hv]
        rw [jl_all, jl_all] at hq
        rcases List.mem_cons.mp hq with e | e
        · rw [e]; exact List.mem_cons_self
        · exact List.mem_cons_of_mem _ (a3 q e)
    match n, v, h with
    | m + 2, .long x, h => exact two m _ rfl rfl h
    | m + 2, .double x, h => exact two m _ rfl rfl h
    | m + 1, .int x, h => exact one m _ rfl rfl h
    | m + 1, .ref x, h => exact one m _ rfl rfl h
    | m + 1, .null, h => exact one m _ rfl rfl h
    | 0, .int _, h => cases h
    | 0, .long _, h => cases h
    | 1, .long _, h => cases h
    | 0, .double _, h => cases h
    | 1, .double _, h => cases h
    | 0, .ref _, h => cases h
    | 0, .null, h => cases h
    | 0, .float _, h => cases h
    | 1, .float _, h => cases h
    | m + 2, .float _, h => cases h
    | 0, .retAddr _, h => cases h
    | 1, .retAddr _, h => cases h
    | m + 2, .retAddr _, h => cases h
theorem jr_L.entry {as : List Value} {n : Nat} {L : ja_L} (h : ja_en n as = some L) : jr_L ((lg_sl as ++ List.replicate (n - (lg_sl as).length) Slot.unset).toArray) n L := by
  obtain ⟨h1, h2, h3⟩ := jl_en as n L 0 h
  exact ⟨h1, (lv_entry as h2).sub h3⟩
