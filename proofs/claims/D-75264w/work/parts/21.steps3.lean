/-! SOUNDNESS, seventh: new, casts, natives; by program (gen/snd3.py) -/
section STEPS3
variable {p : Program} {l : Launch} {e : Env} {R : Room} {s : State} {m : MethodId} {args : Array Value} {below : List Frame} {meth : Method} {c : Code} {Q : State → Prop}
variable {M : Nat} {D : va_G} {dA : Nat → ClassId} {lo : Nat} {K : Nat → Value} {pc pc' : Nat} {L L' : ja_L} {st st' : List Value} {h h' : ja_H} {ls : Array Slot} {H : Heap} {locs : List Loc} {cells slots : Nat}
theorem jr_len {r : List Value} (h : r.length ≤ 4) : (r.map fun v => v.category).sum ≤ 8 := by
  have key : ∀ l : List Value, (l.map fun v => v.category).sum ≤ 2 * l.length := by
    intro l
    induction l with
    | nil => exact Nat.le_refl _
    | cons v l ih =>
      rw [List.map_cons, List.sum_cons, List.length_cons]
      have : v.category ≤ 2 := by cases v <;> simp [Value.category]
      omega
  have := key r
  omega
theorem jr_R.loc (hR : jr_R R cells slots h h') : 4000 ≤ R.locals := by
  have := hR.2.2.2
  simp only [ja_rl] at this
  omega
theorem jr_R.frm (hR : jr_R R cells slots h h') : 20 ≤ R.frames := by
  have := hR.2.2.1
  simp only [ja_rf] at this
  omega
theorem jr_own (hK : va_K D ja_cls (ja_tys dA) s) {a k N : Nat} {fs : List Value} {C : String} {T : u_T} (hg : jr_at D dA a (.inr (k, fs)) H) (hc : ja_cls[k]? = some (C, T, N)) : ∃ cell : Cell, H[a]? = some cell ∧ cell.vm.isStatics = false ∧ s.vm.findClass C = some cell.cls := by
  obtain ⟨cell, g1, g2, g3, -⟩ := hg
  exact ⟨cell, g1, by rw [g3]; rfl, by rw [g2]; exact (hK.1 k _ hc).2.1⟩
theorem jr_arr (hK : va_K D ja_cls (ja_tys dA) s) : s.vm.findClass "[I" = some (dA 0) ∧ s.vm.findClass "[B" = some (dA 1) ∧ s.vm.findClass "[Ljava/lang/Object;" = some (dA 5) := by
  refine ⟨(hK.2 0 _ rfl).2, (hK.2 1 _ rfl).2, ?_⟩
  obtain ⟨_, _, _, _, _, g⟩ := (hK.2 5 _ rfl).2
  exact g
theorem jw_newc {k : Nat} {X : Option Nat} {N : Option (Nat × List Value × Nat)} (hd : decode (ja_by M) pc = .ok (.new k, 3)) (hs : ja_nw X N pc L st h = some (.inl (pc', L', st', h'))) (evx : ∀ ci, X = some ci → jv_x M pc ci) (ev : ∀ N0, N = some N0 → jv_n (ja_ow M) k N0) (hC : jr_C p l s m args meth c M D dA lo K) (hL : jr_L ls (ja_mx M) L) (hH : jr_H D dA h H) (hlo : ja_lo h = lo) (hk : ja_k h = K) (hS : va_S (ja_A lo) s.heap H locs) (hR : jr_R R cells slots h h') (kk : jr_KK p l e R s m args below meth c Q M D dA lo cells slots h h' pc' L' st') : W p l e R s m args below meth c H locs cells slots Q (F0 m pc ls st) := by
  unfold ja_nw at hs
  split at hs
  · rename_i ci
    unfold ja_xw at hs
    split at hs
    · rename_i hlen
      obtain ⟨rfl, rfl, rfl, rfl⟩ := jx_nx hs
      obtain ⟨ik, ic, cls, names, d0, d3, d4, hc, hnf, hci, hnl, hfit, hnfit, hw1, hw2, hw3, hw4⟩ := evx _ rfl
      have hik : ik = k := by have := d0.symm.trans hd; simp at this; exact this
      subst hik
      have hr := hR.new
      have e0 : ja_sz h = H.size := hH.1.symm
      rw [e0] at kk
      refine jw_mk0 hC.1 hC.2.1 hC.2.2.2.2.2.2.2.1 hC.own hfit hnfit (hC.hts _ hw1) (hC.hts _ hw2) (fun w hw => ?_) hw4 hC.env.2.2.2.2.2.2.2.2.2.2.1 hC.env.2.2.2.2.2.2.2.2.2.2.2.1 hS (hL.size.trans hC.2.2.1.symm) d0 d3 d4 hC.kn hc hnf ?_ ?_ hr.1 hr.2 (fun H1 z oq hat hS1 => kk.new hL hH z oq hat ⟨hnf.symm, hci⟩ hS1)
      · rcases hw3 w hw with h1 | h1
        · exact hC.hts _ h1
        · have h2 := (List.mem_filter.mp h1).2
          exact hC.nw h1 (by cases w <;> first | rfl | cases h2)
      · have := hR.frm
        omega
      · have := hR.loc
        have := jr_len hlen
        have h13 : 13 * (names.length + 1) ≤ 13 * 6 := Nat.mul_le_mul_left _ (by omega)
        omega
    · cases hs
  · rename_i ci fs n
    obtain ⟨rfl, rfl, rfl, rfl⟩ := jx_nx hs
    obtain ⟨C, T, ty, ⟨k1, k2, k3, k4, k5⟩, h1, h2, h3, h4, h5⟩ := ev _ rfl
    have hr := hR.new
    have e0 : ja_sz h = H.size := hH.1.symm
    rw [e0] at kk
    have hlt : ci < 38 := Nat.lt_of_lt_of_le (List.getElem?_eq_some_iff.mp k1).1 (by decide)
    exact jw_new hC.1 hC.2.1 hC.hts k3 ty k4 hC.own (hC.hts _ h1) (hC.hts _ h2) (hC.hts _ h3) hC.kn hS k1 k2 h4 hr.1 hr.2 hd (fun H1 z oq hat hS1 => kk.new hL hH z oq hat ⟨h5.trans k2.symm, hlt⟩ hS1)
  · cases hs
theorem jw_checkcast {k : Nat} {ks : List Nat} (hd : decode (ja_by M) pc = .ok (.checkcast k, 3)) (hs : ja_cc ks (pc + 3) L st h = some (.inl (pc', L', st', h'))) (ev : jv_t (ja_ow M) k ks) (hC : jr_C p l s m args meth c M D dA lo K) (hL : jr_L ls (ja_mx M) L) (hH : jr_H D dA h H) (hlo : ja_lo h = lo) (hk : ja_k h = K) (hS : va_S (ja_A lo) s.heap H locs) (hR : jr_R R cells slots h h') (kk : jr_KK p l e R s m args below meth c Q M D dA lo cells slots h h' pc' L' st') : W p l e R s m args below meth c H locs cells slots Q (F0 m pc ls st) := by
  unfold ja_cc at hs
  split at hs
  · rename_i a r
    split at hs
    · rename_i hm
      obtain ⟨rfl, rfl, rfl, rfl⟩ := jx_nx hs
      have k0 := kk.same hL hH hS
      obtain ⟨nm, h1, h2⟩ := ev _ hm
      cases hg : ja_g h a with
      | none =>
        exfalso
        rw [hg] at h2
        have hkd : ja_kd none = 1000 := rfl
        rw [hkd] at h2
        rcases h2 with ⟨T, N, h2⟩ | ⟨h2, -⟩ | ⟨h2, -⟩ | ⟨h2, -⟩ | ⟨h2, -⟩
        · exact absurd (List.getElem?_eq_some_iff.mp h2).1 (by decide)
        all_goals exact absurd h2 (by decide)
      | some c0 =>
        rw [hg] at h2
        cases c0 with
        | inl x =>
          obtain ⟨t, x⟩ := x
          have hkd : ja_kd (some (.inl (t, x))) = 100 + t := rfl
          rw [hkd] at h2
          have ha := (hH.2 _ _ hg).1
          obtain ⟨a1, a2, a3⟩ := jr_arr (D := D) (dA := dA) hC.kn
          rcases h2 with ⟨T, N, h2⟩ | ⟨h2, rfl⟩ | ⟨h2, rfl⟩ | ⟨h2, rfl⟩ | ⟨h2, -⟩
          · exact absurd (List.getElem?_eq_some_iff.mp h2).1 (by show ¬ (100 + t < 22); omega)
          · have ht : t = 0 := by omega
            subst ht
            exact va_castA hC.1 hC.2.1 hC.own (hC.hts _ h1) (jr_Pa ha) 0 rfl a1 hd k0
          · have ht : t = 1 := by omega
            subst ht
            exact va_castA hC.1 hC.2.1 hC.own (hC.hts _ h1) (jr_Pa ha) 0 rfl a2 hd k0
          · have ht : t = 5 := by omega
            subst ht
            exact va_castA hC.1 hC.2.1 hC.own (hC.hts _ h1) (jr_Pa ha) 0 rfl a3 hd k0
          · omega
        | inr x =>
          obtain ⟨ci, fs⟩ := x
          have hkd : ja_kd (some (.inr (ci, fs))) = ci := rfl
          rw [hkd] at h2
          have ha := (hH.2 _ _ hg).1
          have hlt := (hH.2 _ _ hg).2.2
          rcases h2 with ⟨T, N, h2⟩ | ⟨h2, -⟩ | ⟨h2, -⟩ | ⟨h2, -⟩ | ⟨rfl, rfl⟩
          · exact va_castS hC.1 hC.2.1 hC.own (hC.hts _ h1) (hC.kn.1 ci _ h2).2 (jr_own hC.kn ha h2) hd k0
          · omega
          · omega
          · omega
          · exact va_castY hC.1 hC.2.1 hC.own (hC.hts _ h1) (hC.env.2.1 _ (ja_nw_in q1449 rfl)) (jr_own hC.kn ha (k := 1) rfl) hd k0
    · cases hs
  · obtain ⟨rfl, rfl, rfl, rfl⟩ := jx_nx hs
    exact lv_castN hC.1 hC.2.1 hd (kk.same hL hH hS)
  · cases hs
theorem jw_instanceof {k : Nat} {ks : List Nat} (hd : decode (ja_by M) pc = .ok (.instanceof k, 3)) (hs : ja_io ks (pc + 3) L st h = some (.inl (pc', L', st', h'))) (ev : jv_t (ja_ow M) k ks) (ev2 : ∀ k0 ∈ ks, k0 = 18) (hC : jr_C p l s m args meth c M D dA lo K) (hL : jr_L ls (ja_mx M) L) (hH : jr_H D dA h H) (hlo : ja_lo h = lo) (hk : ja_k h = K) (hS : va_S (ja_A lo) s.heap H locs) (hR : jr_R R cells slots h h') (kk : jr_KK p l e R s m args below meth c Q M D dA lo cells slots h h' pc' L' st') : W p l e R s m args below meth c H locs cells slots Q (F0 m pc ls st) := by
  unfold ja_io at hs
  split at hs
  · rename_i a r
    split at hs
    · rename_i hm
      obtain ⟨rfl, rfl, rfl, rfl⟩ := jx_nx hs
      have k0 := kk.same hL hH hS
      obtain ⟨nm, h1, h2⟩ := ev _ hm
      cases hg : ja_g h a with
      | none =>
        exfalso
        rw [hg] at h2
        have hkd : ja_kd none = 1000 := rfl
        rw [hkd] at h2
        rcases h2 with ⟨T, N, h2⟩ | ⟨h2, -⟩ | ⟨h2, -⟩ | ⟨h2, -⟩ | ⟨h2, -⟩
        · exact absurd (List.getElem?_eq_some_iff.mp h2).1 (by decide)
        all_goals exact absurd h2 (by decide)
      | some c0 =>
        rw [hg] at h2
        cases c0 with
        | inl x =>
          obtain ⟨t, x⟩ := x
          have hkd : ja_kd (some (.inl (t, x))) = 100 + t := rfl
          rw [hkd] at h2
          have ha := (hH.2 _ _ hg).1
          obtain ⟨a1, a2, a3⟩ := jr_arr (D := D) (dA := dA) hC.kn
          rcases h2 with ⟨T, N, h2⟩ | ⟨h2, rfl⟩ | ⟨h2, rfl⟩ | ⟨h2, rfl⟩ | ⟨h2, -⟩
          · exact absurd (List.getElem?_eq_some_iff.mp h2).1 (by show ¬ (100 + t < 22); omega)
          · exact absurd h2 (by have := ev2 _ hm; rw [hg, hkd] at this; omega)
          · exact absurd h2 (by have := ev2 _ hm; rw [hg, hkd] at this; omega)
          · exact absurd h2 (by have := ev2 _ hm; rw [hg, hkd] at this; omega)
          · omega
        | inr x =>
          obtain ⟨ci, fs⟩ := x
          have hkd : ja_kd (some (.inr (ci, fs))) = ci := rfl
          rw [hkd] at h2
          have ha := (hH.2 _ _ hg).1
          have hlt := (hH.2 _ _ hg).2.2
          rcases h2 with ⟨T, N, h2⟩ | ⟨h2, -⟩ | ⟨h2, -⟩ | ⟨h2, -⟩ | ⟨rfl, rfl⟩
          · exact va_instS hC.1 hC.2.1 hC.own (hC.hts _ h1) (hC.kn.1 ci _ h2).2 (jr_own hC.kn ha h2) hd k0
          · omega
          · omega
          · omega
          · exact absurd (ev2 _ hm) (by rw [hg, hkd]; decide)
    · cases hs
  · cases hs
theorem ja_obj : ∀ k, k < 19 → ∃ C T N, ja_cls[k]? = some (C, T, N) ∧ Cond.castable C "java/lang/Object" ∈ ja_nwl
  | 0, _ => ⟨_, _, _, rfl, ja_nw_in q2903 rfl⟩
  | 1, _ => ⟨_, _, _, rfl, ja_nw_in q2904 rfl⟩
  | 2, _ => ⟨_, _, _, rfl, ja_nw_in q2908 rfl⟩
  | 3, _ => ⟨_, _, _, rfl, ja_nw_in q2910 rfl⟩
  | 4, _ => ⟨_, _, _, rfl, ja_nw_in q2916 rfl⟩
  | 5, _ => ⟨_, _, _, rfl, ja_nw_in q2917 rfl⟩
  | 6, _ => ⟨_, _, _, rfl, ja_nw_in q2920 rfl⟩
  | 7, _ => ⟨_, _, _, rfl, ja_nw_in q2921 rfl⟩
  | 8, _ => ⟨_, _, _, rfl, ja_nw_in q2924 rfl⟩
  | 9, _ => ⟨_, _, _, rfl, ja_nw_in q2926 rfl⟩
  | 10, _ => ⟨_, _, _, rfl, ja_nw_in q2913 rfl⟩
  | 11, _ => ⟨_, _, _, rfl, ja_nw_in q2915 rfl⟩
  | 12, _ => ⟨_, _, _, rfl, ja_nw_in q2911 rfl⟩
  | 13, _ => ⟨_, _, _, rfl, ja_nw_in q2905 rfl⟩
  | 14, _ => ⟨_, _, _, rfl, ja_nw_in q2922 rfl⟩
  | 15, _ => ⟨_, _, _, rfl, ja_nw_in q2909 rfl⟩
  | 16, _ => ⟨_, _, _, rfl, ja_nw_in q2925 rfl⟩
  | 17, _ => ⟨_, _, _, rfl, ja_nw_in q2907 rfl⟩
  | 18, _ => ⟨_, _, _, rfl, ja_nw_in q2901 rfl⟩
  | k + 19, h => absurd h (by omega)
theorem jr_any (hC : jr_C p l s m args meth c M D dA lo K) {v : Nat} (hH : jr_H D dA h H) (hk : ja_kd (ja_g h v) < 19) : va_Any "java/lang/Object" s H v := by
  cases hg : ja_g h v with
  | none => rw [hg] at hk; exact absurd hk (by decide)
  | some c0 =>
    rw [hg] at hk
    cases c0 with
    | inl x =>
      obtain ⟨t, x⟩ := x
      have hk : 100 + t < 19 := hk
      omega
    | inr x =>
      obtain ⟨ci, fs⟩ := x
      obtain ⟨C, T, N, h1, h2⟩ := ja_obj ci hk
      obtain ⟨cell, g1, g2, g3⟩ := jr_own hC.kn (hH.2 _ _ hg).1 h1
      obtain ⟨kC, hkC, -⟩ := Vm.findClass_spec g3
      obtain ⟨c3, c4, hc3, hc4, hasg⟩ := Cond.castable_spec (hC.nw h2 rfl)
      cases Option.some.inj (hc3.symm.trans g3)
      exact ⟨cell, g1, g2, ⟨kC, hkC⟩, fun comp hc => by cases Option.some.inj (hc4.symm.trans hc); exact hasg⟩
theorem jw_aastore (hd : decode (ja_by M) pc = .ok (.aastore, 1)) (hs : ja_bq (pc + 1) L st h = some (.inl (pc', L', st', h'))) (hC : jr_C p l s m args meth c M D dA lo K) (hL : jr_L ls (ja_mx M) L) (hH : jr_H D dA h H) (hlo : ja_lo h = lo) (hk : ja_k h = K) (hS : va_S (ja_A lo) s.heap H locs) (hR : jr_R R cells slots h h') (kk : jr_KK p l e R s m args below meth c Q M D dA lo cells slots h h' pc' L' st') : W p l e R s m args below meth c H locs cells slots Q (F0 m pc ls st) := by
  unfold ja_bq at hs
  split at hs
  · rename_i v i a r
    unfold ja_bq1 at hs
    split at hs
    · rename_i t n f hg
      split at hs
      · rename_i hi
        obtain ⟨hla, hi, hok⟩ := hi
        obtain ⟨rfl, rfl, rfl, rfl⟩ := jx_nx hs
        have haA : ja_A lo a := by rw [← hlo]; exact hla
        have hw : jr_wf h (.inl (t, n, .inr (.inr (.inr (.inr (va_up f i.toNatClampNeg (some v))))))) := ⟨(hH.2 _ _ hg).2.1, fun h5 j y hy => by
          unfold va_up at hy
          split at hy
          · cases hy
            subst h5
            exact of_decide_eq_true hok
          · exact (hH.2 _ _ hg).2.2 h5 j y hy⟩
        have hok : ja_tk t (ja_kd (ja_g h v)) = true := hok
        have fin : ∀ E : String, ja_ft t = .object E → t < 8 → va_Any E s H v → W p l e R s m args below meth c H locs cells slots Q (F0 m pc ls (.ref v :: .int i :: .ref a :: r)) := fun E h1 h2 h3 =>
          jw_ast hC.1 hC.2.1 hC.kn hS haA h1 h2 (hH.2 _ _ hg).1 h3 (jr_vi hi) hd (fun H1 locs1 z oq hat hS1 => kk.upd hL hH z oq hat (by rw [hg]; rfl) hw hS1)
        unfold ja_tk at hok
        split at hok
        · have hk : ja_kd (ja_g h v) ≤ 18 := of_decide_eq_true hok
          exact fin _ rfl (by decide) (jr_any hC hH (by omega))
        · have hk : ja_kd (ja_g h v) = 18 := of_decide_eq_true hok
          refine fin _ rfl (by decide) ?_
          cases hgv : ja_g h v with
          | none => rw [hgv] at hk; exact absurd hk (by decide)
          | some c0 =>
            rw [hgv] at hk
            cases c0 with
            | inl x => obtain ⟨t, x⟩ := x; have hk : 100 + t = 18 := hk; omega
            | inr x =>
              obtain ⟨ci, fs⟩ := x
              have hk : ci = 18 := hk
              subst hk
              obtain ⟨cell, g1, g2, g3⟩ := jr_own hC.kn (hH.2 _ _ hgv).1 (k := 18) rfl
              obtain ⟨kC, hkC, -⟩ := Vm.findClass_spec g3
              exact ⟨cell, g1, g2, ⟨kC, hkC⟩, fun comp hc => by cases Option.some.inj (g3.symm.trans hc); exact va_asg _ _⟩
        · have hk : 30 ≤ ja_kd (ja_g h v) ∧ ja_kd (ja_g h v) ≤ 32 := of_decide_eq_true hok
          exact fin _ rfl (by decide) (jr_Lm.any hC.env.2.2.2.2.2.2.2.2.2.2.2.2 hH hk)
        · cases hok
      · cases hs
    · cases hs
  · rename_i i a r
    unfold ja_bq1 at hs
    split at hs
    · rename_i t n f hg
      split at hs
      · rename_i hi
        obtain ⟨hla, hi, hok⟩ := hi
        obtain ⟨rfl, rfl, rfl, rfl⟩ := jx_nx hs
        have haA : ja_A lo a := by rw [← hlo]; exact hla
        have hw : jr_wf h (.inl (t, n, .inr (.inr (.inr (.inr (va_up f i.toNatClampNeg none)))))) := ⟨(hH.2 _ _ hg).2.1, fun h5 j y hy => by
          unfold va_up at hy
          split at hy
          · cases hy
          · exact (hH.2 _ _ hg).2.2 h5 j y hy⟩
        have hok : 5 ≤ t ∧ t ≤ 7 := of_decide_eq_true hok
        rcases (show t = 5 ∨ t = 6 ∨ t = 7 by omega) with rfl | rfl | rfl
        all_goals exact jw_astN hC.1 hC.2.1 hC.kn hS haA rfl (by decide) (hH.2 _ _ hg).1 (jr_vi hi) hd (fun H1 locs1 z oq hat hS1 => kk.upd hL hH z oq hat (by rw [hg]; rfl) hw hS1)
      · cases hs
    · cases hs
  · cases hs
theorem ja_nfw : nativeFrameWords "java/lang/System" "arraycopy" 5 ≤ 1000 := by decide +kernel
theorem jw_arraycopy {k : Nat} (hd : decode (ja_by M) pc = .ok (.invokestatic k, 3)) (hs : ja_cp (pc + 3) L st h = some (.inl (pc', L', st', h'))) (ev : Cond.methodLink (ja_own (ja_ow M)) k arraycopyName ∈ lw_all) (hC : jr_C p l s m args meth c M D dA lo K) (hL : jr_L ls (ja_mx M) L) (hH : jr_H D dA h H) (hlo : ja_lo h = lo) (hk : ja_k h = K) (hS : va_S (ja_A lo) s.heap H locs) (hR : jr_R R cells slots h h') (kk : jr_KK p l e R s m args below meth c Q M D dA lo cells slots h h' pc' L' st') : W p l e R s m args below meth c H locs cells slots Q (F0 m pc ls st) := by
  unfold ja_cp at hs
  split at hs
  · rename_i n dp b sp a r
    unfold ja_cp1 at hs
    split at hs
    · rename_i t n0 f t1 n1 g hga hgb
      split at hs
      · rename_i hi
        obtain ⟨rfl, hlen, hla, i1, i2, i3, hco⟩ := hi
        have hco : sp.toNatClampNeg + n.toNatClampNeg ≤ n0 ∧ dp.toNatClampNeg + n.toNatClampNeg ≤ n1 := of_decide_eq_true hco
        obtain ⟨rfl, rfl, rfl, rfl⟩ := jx_nx hs
        have wa := (hH.2 _ _ hga).2
        have wb := (hH.2 _ _ hgb).2
        have := hR.loc
        have := hR.frm
        have := jr_len hlen
        have := ja_nfw
        refine jw_cpi hC.1 hC.2.1 (hC.2.2.1.trans hL.size.symm) hC.own (hC.hts _ ev) (hC.hts _ q323) (hC.hts _ q322) (hC.hts _ q146) hC.kn hS (by rw [← hlo]; exact hla) (jr_wf_lt wa) ?_ (hH.2 _ _ hga).1 (hH.2 _ _ hgb).1 i1 i2 i3 hco.1 hco.2 wa.2.2 (by omega) (by omega) hd (fun H1 locs1 z oq hat hS1 => kk.upd hL hH z oq hat (by rw [hgb]; rfl) ⟨wb.1, wb.2.1, fun j hj => ?_⟩ hS1)
        · have h4 := wa.1
          have h3 := wa.2.1
          rcases (show t = 0 ∨ t = 1 ∨ t = 2 ∨ t = 4 by omega) with rfl | rfl | rfl | rfl <;> rfl
        · show fits _ (.int (va_cpy f g _ _ _ j)) = true
          unfold va_cpy
          split
          · rename_i hj2
            exact wa.2.2 _ (by omega)
          · exact wb.2.2 _ hj
      · cases hs
    · rename_i t n0 f t1 n1 g hga hgb
      split at hs
      · rename_i hi
        obtain ⟨⟨rfl, rfl⟩, hlen, hla, i1, i2, i3, hco⟩ := hi
        have hco : sp.toNatClampNeg + n.toNatClampNeg ≤ n0 ∧ dp.toNatClampNeg + n.toNatClampNeg ≤ n1 := of_decide_eq_true hco
        obtain ⟨rfl, rfl, rfl, rfl⟩ := jx_nx hs
        have := hR.loc
        have := hR.frm
        have := jr_len hlen
        have := ja_nfw
        exact jw_cpq hC.1 hC.2.1 (hC.2.2.1.trans hL.size.symm) hC.own (hC.hts _ ev) (hC.hts _ q323) (hC.hts _ q322) (hC.hts _ q146) hC.kn hS (by rw [← hlo]; exact hla) (hH.2 _ _ hga).1 (hH.2 _ _ hgb).1 i1 i2 i3 hco.1 hco.2 (fun i y hy => jr_any hC hH (Nat.lt_succ_of_le ((hH.2 _ _ hga).2.2 rfl i y hy))) (by omega) (by omega) hd (fun H1 locs1 z oq hat hS1 => kk.upd hL hH z oq hat (by rw [hgb]; rfl) ⟨(hH.2 _ _ hgb).2.1, fun _ i y hy => by
            unfold va_cpy at hy
            split at hy
            · exact (hH.2 _ _ hga).2.2 rfl _ y hy
            · exact (hH.2 _ _ hgb).2.2 rfl _ y hy⟩ hS1)
      · cases hs
    · cases hs
  · cases hs
theorem ja_oi0 : (Cond.instanceMethod Lib.objectInit) ∈ lw_all := q176
theorem ja_oi1 : (Cond.code Lib.objectInit ⟨#[0xb1]⟩ 1 none) ∈ lw_all := q177
theorem jw_objInit {k : Nat} (hd : decode (ja_by M) pc = .ok (.invokespecial k, 3)) (hs : ja_oi (pc + 3) L st h = some (.inl (pc', L', st', h'))) (ev : Cond.methodLink (ja_own (ja_ow M)) k Lib.objectInit ∈ lw_all) (hC : jr_C p l s m args meth c M D dA lo K) (hL : jr_L ls (ja_mx M) L) (hH : jr_H D dA h H) (hlo : ja_lo h = lo) (hk : ja_k h = K) (hS : va_S (ja_A lo) s.heap H locs) (hR : jr_R R cells slots h h') (kk : jr_KK p l e R s m args below meth c Q M D dA lo cells slots h h' pc' L' st') : W p l e R s m args below meth c H locs cells slots Q (F0 m pc ls st) := by
  unfold ja_oi at hs
  split at hs
  · rename_i a r
    split at hs
    · rename_i hlen
      obtain ⟨rfl, rfl, rfl, rfl⟩ := jx_nx hs
      have := hR.loc
      have := hR.frm
      have := jr_len hlen
      exact W.objInit hC.1 hC.2.1 hC.own (hC.hts _ ev) (hC.hts _ ja_oi0) (hC.hts _ ja_oi1) rfl (hL.size.trans hC.2.2.1.symm) rfl hd (by omega) (by show 2 * 0 + _ + 12 ≤ _; omega) (kk.same hL hH hS)
    · cases hs
  · cases hs
theorem jw_clone {k t0 : Nat} (hd : decode (ja_by M) pc = .ok (.invokevirtual k, 3)) (hs : ja_cn t0 (pc + 3) L st h = some (.inl (pc', L', st', h'))) (ev : ∃ ad, ((t0 = 1 ∧ ad = "[B") ∨ (t0 = 0 ∧ ad = "[I")) ∧ Cond.methodLink (ja_own (ja_ow M)) k (ja_cln ad) ∈ lw_all) (hC : jr_C p l s m args meth c M D dA lo K) (hL : jr_L ls (ja_mx M) L) (hH : jr_H D dA h H) (hlo : ja_lo h = lo) (hk : ja_k h = K) (hS : va_S (ja_A lo) s.heap H locs) (hR : jr_R R cells slots h h') (kk : jr_KK p l e R s m args below meth c Q M D dA lo cells slots h h' pc' L' st') : W p l e R s m args below meth c H locs cells slots Q (F0 m pc ls st) := by
  unfold ja_cn at hs
  split at hs
  · rename_i a r
    unfold ja_cn1 at hs
    split at hs
    · rename_i t n f hg
      split at hs
      · rename_i hi
        obtain ⟨rfl, hlen⟩ := hi
        obtain ⟨rfl, rfl, rfl, rfl⟩ := jx_nx hs
        have w := (hH.2 _ _ hg).2
        have := hR.loc
        have := hR.frm
        have := jr_len hlen
        have hr := hR.new
        have e0 : ja_sz h = H.size := hH.1.symm
        rw [e0] at kk
        obtain ⟨a1, a2, a3⟩ := jr_arr (D := D) (dA := dA) hC.kn
        obtain ⟨ad, had, hl⟩ := ev
        rcases had with ⟨rfl, rfl⟩ | ⟨rfl, rfl⟩
        · exact jw_cln hC.1 hC.2.1 (hC.2.2.1.trans hL.size.symm) hC.own (hC.hts _ hl) (hC.hts _ q312) (hC.hts _ q313) (hC.hts _ q314) (hC.hts _ q315) (hC.env.2.1 _ (ja_nw_in q316 rfl)) hC.kn hS (by decide) (hH.2 _ _ hg).1 a2 w.2.2 (by omega) (by omega) hr.1 hr.2 hd (fun H1 z oq hat hS1 => kk.new hL hH z oq hat w hS1)
        · exact jw_cln hC.1 hC.2.1 (hC.2.2.1.trans hL.size.symm) hC.own (hC.hts _ hl) (hC.hts _ q1100) (hC.hts _ q313) (hC.hts _ q314) (hC.hts _ q1101) (hC.env.2.1 _ (ja_nw_in q1102 rfl)) hC.kn hS (by decide) (hH.2 _ _ hg).1 a1 w.2.2 (by omega) (by omega) hr.1 hr.2 hd (fun H1 z oq hat hS1 => kk.new hL hH z oq hat w hS1)
      · cases hs
    · cases hs
  · cases hs
theorem jw_getClass {k : Nat} (hd : decode (ja_by M) pc = .ok (.invokevirtual k, 3)) (hs : ja_gc (pc + 3) L st h = some (.inl (pc', L', st', h'))) (ev : Cond.methodLink (ja_own (ja_ow M)) k ja_gcl ∈ lw_all) (hC : jr_C p l s m args meth c M D dA lo K) (hL : jr_L ls (ja_mx M) L) (hH : jr_H D dA h H) (hlo : ja_lo h = lo) (hk : ja_k h = K) (hS : va_S (ja_A lo) s.heap H locs) (hR : jr_R R cells slots h h') (kk : jr_KK p l e R s m args below meth c Q M D dA lo cells slots h h' pc' L' st') : W p l e R s m args below meth c H locs cells slots Q (F0 m pc ls st) := by
  unfold ja_gc at hs
  split at hs
  · rename_i a r
    unfold ja_gc1 at hs
    split at hs
    · rename_i hi
      obtain ⟨hkd, hlen⟩ := hi
      obtain ⟨rfl, rfl, rfl, rfl⟩ := jx_nx hs
      rw [hk] at kk
      have := hR.loc
      have := hR.frm
      have := jr_len hlen
      obtain ⟨mi, e1, e2⟩ := hC.env.2.2.2.2.2.2.2.2.1
      rw [e1] at kk
      obtain ⟨a1, a2, a3⟩ := jr_arr (D := D) (dA := dA) hC.kn
      cases hg : ja_g h a with
      | none => rw [hg] at hkd; exact absurd hkd (by decide)
      | some c0 =>
        rw [hg] at hkd
        rcases c0 with ⟨t, n, x⟩ | ⟨ci, fs⟩
        · have ht : t = 5 := by have hkd : 100 + t = 105 := hkd; omega
          subst ht
          have ha : H[a]? = some (vp_cell (dA 5) (n, x)) := (hH.2 _ _ hg).1
          exact va_getC hC.1 hC.2.1 (hC.2.2.1.trans hL.size.symm) hC.own (hC.hts _ ev) (va_Dc.use hC.env.2.2.2.2.2.2.2.2.2.1) (hC.hts _ q2929) (hC.hts _ q858) (hC.hts _ q885) e2 ⟨_, ha, by rcases x with f | f | f | f | f <;> rfl, by rw [a3]; rcases x with f | f | f | f | f <;> rfl⟩ (by omega) (by omega) hd (kk.same hL hH hS)
        · have hkd : ci = 105 := hkd
          have := (hH.2 _ _ hg).2.2
          omega
    · cases hs
  · cases hs
end STEPS3
