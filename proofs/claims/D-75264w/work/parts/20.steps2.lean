/-! SOUNDNESS, sixth: the instructions that touch the heap; by program (gen/snd2.py) -/
section STEPS2
variable {p : Program} {l : Launch} {e : Env} {R : Room} {s : State} {m : MethodId} {args : Array Value} {below : List Frame} {meth : Method} {c : Code} {Q : State → Prop}
variable {M : Nat} {D : va_G} {dA : Nat → ClassId} {lo : Nat} {K : Nat → Value} {pc pc' : Nat} {L L' : ja_L} {st st' : List Value} {h h' : ja_H} {ls : Array Slot} {H : Heap} {locs : List Loc} {cells slots : Nat}
theorem jr_C.hts (hC : jr_C p l s m args meth c M D dA lo K) : ∀ w ∈ lw_all, w.before args s = true := hC.2.2.2.2.1
theorem jr_C.own (hC : jr_C p l s m args meth c M D dA lo K) : s.vm.findClass (ja_own (ja_ow M)) = some m.cls := hC.2.2.2.1
theorem jr_C.env (hC : jr_C p l s m args meth c M D dA lo K) : jr_E D dA lo K s s.heap := hC.2.2.2.2.2.2.1
theorem jr_C.kn (hC : jr_C p l s m args meth c M D dA lo K) : va_K D ja_cls (ja_tys dA) s := hC.env.1
theorem jr_C.nw (hC : jr_C p l s m args meth c M D dA lo K) {w : Cond} (h : w ∈ ja_nwl) (g : w.onTables = true) : w.before args s = true := va_Nw.use g (hC.env.2.1 w h)
theorem jr_vi {i : Int32} {n : Nat} (h : ja_vi i n = true) : vp_in i n := by simpa [ja_vi, vp_in] using h
theorem jr_same (hC : jr_C p l s m args meth c M D dA lo K) {ref a n d : String} (h : ref = a ∨ Cond.sameField ref a n d ∈ lw_all) : ∀ x, s.fieldFound? a n d = some x → s.fieldFound? ref n d = some x := by
  intro x hx
  rcases h with rfl | h
  · exact hx
  · exact u_same (hC.hts _ h) x hx
theorem jw_getfield {k : Nat} {F : Option (Nat × Nat × Nat × Nat)} (hd : decode (ja_by M) pc = .ok (.getfield k, 3)) (hs : ja_gf (ja_fy F) (pc + 3) L st h = some (.inl (pc', L', st', h'))) (ev : ∀ F0, F = some F0 → jv_f (ja_ow M) k F0) (hC : jr_C p l s m args meth c M D dA lo K) (hL : jr_L ls (ja_mx M) L) (hH : jr_H D dA h H) (hlo : ja_lo h = lo) (hk : ja_k h = K) (hS : va_S (ja_A lo) s.heap H locs) (hR : jr_R R cells slots h h') (kk : jr_KK p l e R s m args below meth c Q M D dA lo cells slots h h' pc' L' st') : W p l e R s m args below meth c H locs cells slots Q (F0 m pc ls st) := by
  unfold ja_gf at hs
  split at hs
  · rename_i ci kf kd a r hF
    cases F with
    | none => cases hF
    | some F =>
      obtain ⟨ci0, kf0, kd0, fin⟩ := F
      simp only [ja_fy, Option.some.injEq, Prod.mk.injEq] at hF
      obtain ⟨rfl, rfl, rfl⟩ := hF
      unfold ja_gf1 at hs
      split at hs
      · rename_i c0 fs hg
        split at hs
        · rename_i hc0
          subst hc0
          split at hs
          · rename_i v hv
            obtain ⟨rfl, rfl, rfl, rfl⟩ := jx_nx hs
            obtain ⟨C, T, N, ty, ref, host, ⟨k1, k2, k3, k4, k5⟩, hlt, hkd, hl, hsame⟩ := ev _ rfl
            have hP := jr_P (hH.2 _ _ hg).1 k1 k2
            have k0 := kk.same hL hH hS
            rcases hl with ⟨-, -, hl⟩ | ⟨-, -, -, hl⟩ | ⟨-, -, hl⟩ | ⟨-, hl⟩
            · exact va_get hC.1 hC.2.1 hC.hts k3 hC.own hC.kn hP 0 rfl k1 kf0 hlt (hC.hts _ hl) (jr_same hC hsame) hv hd k0
            · exact va_get hC.1 hC.2.1 hC.hts k3 hC.own hC.kn hP 0 rfl k1 kf0 hlt (hC.hts _ hl) (jr_same hC hsame) hv hd k0
            · exact va_getN hC.1 hC.2.1 hC.hts k3 hC.own hC.kn hP 0 rfl k1 kf0 hlt (hC.nw hl rfl) (jr_same hC hsame) hv hd k0
            · exact va_getN hC.1 hC.2.1 hC.hts k3 hC.own hC.kn hP 0 rfl k1 kf0 hlt (hC.nw hl rfl) (jr_same hC hsame) hv hd k0
          · cases hs
        · cases hs
      · cases hs
  · cases hs
theorem ja_fz_some {F : Option (Nat × Nat × Nat × Nat)} {ci kf kd : Nat} (h : ja_fz M F = some (ci, kf, kd)) : F = some (ci, kf, kd, 0) ∨ (F = some (ci, kf, kd, 1) ∧ ja_ini M = 1) := by
  unfold ja_fz at h
  split at h
  · cases h; exact Or.inl rfl
  · split at h
    · rename_i hi; cases h; exact Or.inr ⟨rfl, hi⟩
    · cases h
  · cases h
theorem jw_putfield {k : Nat} {F : Option (Nat × Nat × Nat × Nat)} (hd : decode (ja_by M) pc = .ok (.putfield k, 3)) (hs : ja_pf (ja_fz M F) (pc + 3) L st h = some (.inl (pc', L', st', h'))) (ev : ∀ F0, F = some F0 → jv_f (ja_ow M) k F0) (hC : jr_C p l s m args meth c M D dA lo K) (hL : jr_L ls (ja_mx M) L) (hH : jr_H D dA h H) (hlo : ja_lo h = lo) (hk : ja_k h = K) (hS : va_S (ja_A lo) s.heap H locs) (hR : jr_R R cells slots h h') (kk : jr_KK p l e R s m args below meth c Q M D dA lo cells slots h h' pc' L' st') : W p l e R s m args below meth c H locs cells slots Q (F0 m pc ls st) := by
  unfold ja_pf at hs
  split at hs
  · rename_i ci kf kd v a r hF
    unfold ja_pf1 at hs
    split at hs
    · rename_i c0 fs hg
      split at hs
      · rename_i hc0
        obtain ⟨rfl, hfk, hlf, hla⟩ := hc0
        obtain ⟨rfl, rfl, rfl, rfl⟩ := jx_nx hs
        have hw := (hH.2 _ _ hg).2
        have hw2 : jr_wf h (.inr (c0, fs.set kf v)) := ⟨by rw [List.length_set]; exact hw.1, hw.2⟩
        have haA : ja_A lo a := by rw [← hlo]; exact hla
        rcases ja_fz_some hF with hF | ⟨hF, hini⟩
        · obtain ⟨C, T, N, ty, ref, host, ⟨k1, k2, k3, k4, k5⟩, hlt, hkd, hl, hsame⟩ := ev _ hF
          obtain ⟨hn, hfit⟩ := ja_fk_ok hkd hfk
          rcases hl with ⟨-, f1, hl⟩ | ⟨f1, -⟩ | ⟨-, f1, hl⟩ | ⟨f1, -⟩
          · exact jw_put (C := C) (T := T) (N := N) (host := host) (ref := ref) (fw := 0) hC.1 hC.2.1 hC.hts k3 ty k4 k5 hC.own hC.kn (hH.2 _ _ hg).1 hS haA k1 k2 kf hlt (Or.inl ⟨rfl, f1, hC.hts _ hl⟩) (jr_same hC hsame) (k4 kf hlt) hn hfit hlf hd (fun H1 locs1 z oq hat hS1 => kk.upd hL hH z oq hat (by rw [hg]; rfl) hw2 hS1)
          · cases f1
          · exact jw_put (C := C) (T := T) (N := N) (host := host) (ref := ref) (fw := 2) hC.1 hC.2.1 hC.hts k3 ty k4 k5 hC.own hC.kn (hH.2 _ _ hg).1 hS haA k1 k2 kf hlt (Or.inr (Or.inr ⟨rfl, f1, hC.nw hl rfl⟩)) (jr_same hC hsame) (k4 kf hlt) hn hfit hlf hd (fun H1 locs1 z oq hat hS1 => kk.upd hL hH z oq hat (by rw [hg]; rfl) hw2 hS1)
          · cases f1
        · obtain ⟨C, T, N, ty, ref, host, ⟨k1, k2, k3, k4, k5⟩, hlt, hkd, hl, hsame⟩ := ev _ hF
          obtain ⟨hn, hfit⟩ := ja_fk_ok hkd hfk
          rcases hl with ⟨f1, -⟩ | ⟨-, f1, f2, hl⟩ | ⟨f1, -⟩ | ⟨f1, -⟩
          · cases f1
          · exact jw_put (C := C) (T := T) (N := N) (host := host) (ref := ref) (fw := 1) hC.1 hC.2.1 hC.hts k3 ty k4 k5 hC.own hC.kn (hH.2 _ _ hg).1 hS haA k1 k2 kf hlt (Or.inr (Or.inl ⟨rfl, f1, hC.2.2.2.2.2.1 hini, f2, hC.hts _ hl⟩)) (jr_same hC hsame) (k4 kf hlt) hn hfit hlf hd (fun H1 locs1 z oq hat hS1 => kk.upd hL hH z oq hat (by rw [hg]; rfl) hw2 hS1)
          · cases f1
          · cases f1
      · cases hs
    · cases hs
  · cases hs
theorem jw_getstatic {k : Nat} {G : Option (Value ⊕ Nat)} (hd : decode (ja_by M) pc = .ok (.getstatic k, 3)) (hs : ja_pc G (pc + 3) L st h = some (.inl (pc', L', st', h'))) (ev : ∀ G0, G = some G0 → jv_g (ja_ow M) k G0) (hC : jr_C p l s m args meth c M D dA lo K) (hL : jr_L ls (ja_mx M) L) (hH : jr_H D dA h H) (hlo : ja_lo h = lo) (hk : ja_k h = K) (hS : va_S (ja_A lo) s.heap H locs) (hR : jr_R R cells slots h h') (kk : jr_KK p l e R s m args below meth c Q M D dA lo cells slots h h' pc' L' st') : W p l e R s m args below meth c H locs cells slots Q (F0 m pc ls st) := by
  unfold ja_pc at hs
  split at hs
  · rename_i v
    obtain ⟨rfl, rfl, rfl, rfl⟩ := jx_nx hs
    have h1 := ev _ rfl
    cases v with
    | int v =>
      obtain ⟨rfl, hl⟩ := h1
      exact va_gets hC.1 hC.2.1 hC.env.2.2.2.2.1 hS hC.own (hC.hts _ hl) (fun _ q => q) hd (kk.same hL hH hS)
    | _ => exact h1.elim
  · rename_i j
    obtain ⟨rfl, rfl, rfl, rfl⟩ := jx_nx hs
    obtain ⟨C, n, d, h1, hl⟩ := ev _ rfl
    rw [hk] at kk
    exact va_gets hC.1 hC.2.1 (hC.env.2.2.2.1 _ h1) hS hC.own (hC.hts _ hl) (fun _ q => q) hd (kk.same hL hH hS)
  · cases hs
theorem jw_ldcwS {cc : ByteArray} {rest : List Value} (hexec : p.tables.exec = Jvm.exec) (hb : c.code = cc) {own tx : String} {index q : Nat} (hown : s.vm.findClass own = some m.cls) (hZ : vk_R own index tx q s) (hdg : decode cc pc = .ok (.ldc_w index, 3))
    (k : W p l e R s m args below meth c H locs cells slots Q (F0 m (pc + 3) ls (.ref q :: rest))) : W p l e R s m args below meth c H locs cells slots Q (F0 m pc ls rest) := by
  intro T hT X
  obtain ⟨t, a1, b1⟩ := k T hT X
  refine ⟨t, ?_, b1⟩
  obtain ⟨k, cf, i, a', hk, hcf, hcp, -, hr, hev'⟩ := Cond.stringRef_spec (args := #[]) hown hZ.1
  cases hZ.2.symm.trans hev'
  obtain ⟨k', hk', he⟩ := X.warmed.alike.2.2 _ _ hk
  have hr' : k'.resolved[index]? = some (some (.string q)) := by
    rcases X.warmed.entry hk hk' index with h | ⟨h, -⟩
    · rw [h]; exact hr
    · rw [hr] at h; cases h
  have hdg' : decode c.code pc = .ok (.ldc_w index, 3) := by rw [hb]; exact hdg
  jvm_step X.here [hexec, hdg', ldc_w.wp_string (e := e) (s := T) (f := F0 m pc ls rest) X.here.top hk' (by rw [he]; exact hcf) hcp hr']
  exact a1
theorem jw_ldc {k : Nat} {G : Option (Value ⊕ Nat)} (hd : decode (ja_by M) pc = .ok (.ldc k, 2)) (hs : ja_p4 G (pc + 2) L st h = some (.inl (pc', L', st', h'))) (ev : ∀ G0, G = some G0 → jv_c (ja_ow M) k G0) (hC : jr_C p l s m args meth c M D dA lo K) (hL : jr_L ls (ja_mx M) L) (hH : jr_H D dA h H) (hlo : ja_lo h = lo) (hk : ja_k h = K) (hS : va_S (ja_A lo) s.heap H locs) (hR : jr_R R cells slots h h') (kk : jr_KK p l e R s m args below meth c Q M D dA lo cells slots h h' pc' L' st') : W p l e R s m args below meth c H locs cells slots Q (F0 m pc ls st) := by
  unfold ja_p4 at hs
  split at hs
  · rename_i v
    obtain ⟨rfl, rfl, rfl, rfl⟩ := jx_nx hs
    exact lv_ldc hC.1 hC.2.1 hC.own (hC.hts _ (ev _ rfl)) hd (kk.same hL hH hS)
  · rename_i j
    obtain ⟨rfl, rfl, rfl, rfl⟩ := jx_nx hs
    have h1 := ev _ rfl
    rw [hk] at kk
    cases j with
    | zero =>
      obtain ⟨mi, e1, e2⟩ := hC.env.2.2.2.2.2.2.2.2.1
      rw [e1] at kk
      exact va_ldcM hC.1 hC.2.1 hC.own (hC.hts _ h1) e2 hd (kk.same hL hH hS)
    | succ j =>
      obtain ⟨tx, h1⟩ := h1
      obtain ⟨a, e1, e2⟩ := hC.env.2.2.1 _ h1
      have e1 : K (j + 1) = .ref a := e1
      rw [e1] at kk
      exact va_ldcS hC.1 hC.2.1 hC.own e2 hd (kk.same hL hH hS)
  · cases hs
theorem jw_ldc_w {k : Nat} {G : Option (Value ⊕ Nat)} (hd : decode (ja_by M) pc = .ok (.ldc_w k, 3)) (hs : ja_p4 G (pc + 3) L st h = some (.inl (pc', L', st', h'))) (ev : ∀ G0, G = some G0 → jv_c (ja_ow M) k G0 ∧ G0 ≠ .inr 0) (hC : jr_C p l s m args meth c M D dA lo K) (hL : jr_L ls (ja_mx M) L) (hH : jr_H D dA h H) (hlo : ja_lo h = lo) (hk : ja_k h = K) (hS : va_S (ja_A lo) s.heap H locs) (hR : jr_R R cells slots h h') (kk : jr_KK p l e R s m args below meth c Q M D dA lo cells slots h h' pc' L' st') : W p l e R s m args below meth c H locs cells slots Q (F0 m pc ls st) := by
  unfold ja_p4 at hs
  split at hs
  · rename_i v
    obtain ⟨rfl, rfl, rfl, rfl⟩ := jx_nx hs
    exact lv_ldcw hC.1 hC.2.1 hC.own (hC.hts _ (ev _ rfl).1) hd (kk.same hL hH hS)
  · rename_i j
    obtain ⟨rfl, rfl, rfl, rfl⟩ := jx_nx hs
    have h1 := ev _ rfl
    rw [hk] at kk
    cases j with
    | zero =>
      exact absurd rfl h1.2
    | succ j =>
      obtain ⟨⟨tx, h1⟩, -⟩ := h1
      obtain ⟨a, e1, e2⟩ := hC.env.2.2.1 _ h1
      have e1 : K (j + 1) = .ref a := e1
      rw [e1] at kk
      exact jw_ldcwS hC.1 hC.2.1 hC.own e2 hd (kk.same hL hH hS)
  · cases hs
theorem jw_ldc2_w {k : Nat} {G : Option (Value ⊕ Nat)} (hd : decode (ja_by M) pc = .ok (.ldc2_w k, 3)) (hs : ja_p3 G (pc + 3) L st h = some (.inl (pc', L', st', h'))) (ev : ∀ G0, G = some G0 → jv_c (ja_ow M) k G0) (hC : jr_C p l s m args meth c M D dA lo K) (hL : jr_L ls (ja_mx M) L) (hH : jr_H D dA h H) (hlo : ja_lo h = lo) (hk : ja_k h = K) (hS : va_S (ja_A lo) s.heap H locs) (hR : jr_R R cells slots h h') (kk : jr_KK p l e R s m args below meth c Q M D dA lo cells slots h h' pc' L' st') : W p l e R s m args below meth c H locs cells slots Q (F0 m pc ls st) := by
  unfold ja_p3 at hs
  split at hs
  · obtain ⟨rfl, rfl, rfl, rfl⟩ := jx_nx hs
    exact lv_ldc2 hC.1 hC.2.1 hC.own (hC.hts _ (ev _ rfl)) hd (kk.same hL hH hS)
  · cases hs
theorem jw_newarray {a : ArrayType} (hd : decode (ja_by M) pc = .ok (.newarray a, 2)) (hs : ja_na (ja_ty a).1 (ja_ty a).2 (pc + 2) L st h = some (.inl (pc', L', st', h'))) (hC : jr_C p l s m args meth c M D dA lo K) (hL : jr_L ls (ja_mx M) L) (hH : jr_H D dA h H) (hlo : ja_lo h = lo) (hk : ja_k h = K) (hS : va_S (ja_A lo) s.heap H locs) (hR : jr_R R cells slots h h') (kk : jr_KK p l e R s m args below meth c Q M D dA lo cells slots h h' pc' L' st') : W p l e R s m args below meth c H locs cells slots Q (F0 m pc ls st) := by
  unfold ja_na at hs
  split at hs
  · rename_i t x r ht
    unfold ja_na1 at hs
    split at hs
    · rename_i hx
      obtain ⟨hx1, hx2⟩ := hx
      obtain ⟨rfl, rfl, rfl, rfl⟩ := jx_nx hs
      have hr := hR.new
      have e0 : ja_sz h = H.size := hH.1.symm
      rw [e0] at kk
      cases a <;> first
        | (cases ht; done)
        | (cases ht
           refine jw_newa hC.1 hC.2.1 (hC.hts _ (by first | exact q595 | exact q276 | exact q2310 | exact q2309 | exact q1221)) hC.kn hS (by first | exact ja_tys_at (t := 0) (by decide) | exact ja_tys_at (t := 1) (by decide) | exact ja_tys_at (t := 2) (by decide) | exact ja_tys_at (t := 3) (by decide) | exact ja_tys_at (t := 4) (by decide)) (by first | rfl) hx1 ?_ hr.1 hr.2 hd (fun H1 z oq hat hS1 => kk.new hL hH z oq hat ?_ hS1)
           · exact Nat.le_trans (Nat.mul_le_mul_right _ hx2) (by decide)
           · first | exact rfl | exact ⟨by decide, by decide, fun j _ => by rfl⟩)
    · cases hs
  · cases hs
theorem jw_anewarray {k : Nat} {T : Option Nat} (hd : decode (ja_by M) pc = .ok (.anewarray k, 3)) (hs : ja_na T ja_zq (pc + 3) L st h = some (.inl (pc', L', st', h'))) (ev : ∀ t, T = some t → jv_a (ja_ow M) k t) (hC : jr_C p l s m args meth c M D dA lo K) (hL : jr_L ls (ja_mx M) L) (hH : jr_H D dA h H) (hlo : ja_lo h = lo) (hk : ja_k h = K) (hS : va_S (ja_A lo) s.heap H locs) (hR : jr_R R cells slots h h') (kk : jr_KK p l e R s m args below meth c Q M D dA lo cells slots h h' pc' L' st') : W p l e R s m args below meth c H locs cells slots Q (F0 m pc ls st) := by
  unfold ja_na at hs
  split at hs
  · rename_i t x r
    unfold ja_na1 at hs
    split at hs
    · rename_i hx
      obtain ⟨hx1, hx2⟩ := hx
      obtain ⟨rfl, rfl, rfl, rfl⟩ := jx_nx hs
      have hr := hR.new
      have e0 : ja_sz h = H.size := hH.1.symm
      rw [e0] at kk
      have hb4 : x.toNatClampNeg * 4 ≤ 536870912 := Nat.le_trans (Nat.mul_le_mul_right 4 hx2) (by decide)
      obtain ⟨C, hl, hT⟩ := ev _ rfl
      obtain ⟨o1, o2, o3⟩ := hC.env.2.2.2.2.2.2.2.1
      rcases hT with ⟨rfl, rfl⟩ | ⟨rfl, rfl⟩ | ⟨rfl, rfl⟩
      · exact jw_newq hC.1 hC.2.1 hC.own (hC.hts _ hl) o1 hC.kn hS (ja_tys_at (t := 5) (by decide)) hx1 hb4 hr.1 hr.2 hd (fun H1 z oq hat hS1 => kk.new hL hH z oq hat ⟨⟨by decide, by decide⟩, fun _ i y hy => by cases hy⟩ hS1)
      · exact jw_newq hC.1 hC.2.1 hC.own (hC.hts _ hl) o2 hC.kn hS (ja_tys_at (t := 6) (by decide)) hx1 hb4 hr.1 hr.2 hd (fun H1 z oq hat hS1 => kk.new hL hH z oq hat ⟨⟨by decide, by decide⟩, fun _ i y hy => by cases hy⟩ hS1)
      · exact jw_newq hC.1 hC.2.1 hC.own (hC.hts _ hl) o3 hC.kn hS (ja_tys_at (t := 7) (by decide)) hx1 hb4 hr.1 hr.2 hd (fun H1 z oq hat hS1 => kk.new hL hH z oq hat ⟨⟨by decide, by decide⟩, fun _ i y hy => by cases hy⟩ hS1)
    · cases hs
  · cases hs
theorem jr_wf_lt {h : ja_H} {t n : Nat} {x : (Nat → Int32) ⊕ (Nat → Int64) ⊕ (Nat → UInt32) ⊕ (Nat → UInt64) ⊕ (Nat → Option Nat)} (h : jr_wf h (.inl (t, n, x))) : t < 8 := by
  rcases x with f | f | f | f | f
  · exact Nat.lt_of_le_of_lt h.1 (by decide)
  · have h : t = 3 := h
    omega
  · exact h.elim
  · exact h.elim
  · have h : 5 ≤ t ∧ t ≤ 7 := h.1
    omega
theorem jw_arraylength (hd : decode (ja_by M) pc = .ok (.arraylength, 1)) (hs : ja_al (pc + 1) L st h = some (.inl (pc', L', st', h'))) (hC : jr_C p l s m args meth c M D dA lo K) (hL : jr_L ls (ja_mx M) L) (hH : jr_H D dA h H) (hlo : ja_lo h = lo) (hk : ja_k h = K) (hS : va_S (ja_A lo) s.heap H locs) (hR : jr_R R cells slots h h') (kk : jr_KK p l e R s m args below meth c Q M D dA lo cells slots h h' pc' L' st') : W p l e R s m args below meth c H locs cells slots Q (F0 m pc ls st) := by
  unfold ja_al at hs
  split at hs
  · rename_i a r
    unfold ja_al1 at hs
    split at hs
    · rename_i t n x hg
      obtain ⟨rfl, rfl, rfl, rfl⟩ := jx_nx hs
      exact va_alen hC.1 hC.2.1 hC.kn (jr_Pa (hH.2 _ _ hg).1) 0 t rfl (ja_tys_at (jr_wf_lt (hH.2 _ _ hg).2)) rfl hd (kk.same hL hH hS)
    · cases hs
  · cases hs
theorem jw_iaload (hd : decode (ja_by M) pc = .ok (.iaload, 1)) (hs : ja_ai (fun t => decide (t = 0)) (pc + 1) L st h = some (.inl (pc', L', st', h'))) (hC : jr_C p l s m args meth c M D dA lo K) (hL : jr_L ls (ja_mx M) L) (hH : jr_H D dA h H) (hlo : ja_lo h = lo) (hk : ja_k h = K) (hS : va_S (ja_A lo) s.heap H locs) (hR : jr_R R cells slots h h') (kk : jr_KK p l e R s m args below meth c Q M D dA lo cells slots h h' pc' L' st') : W p l e R s m args below meth c H locs cells slots Q (F0 m pc ls st) := by
  unfold ja_ai at hs
  split at hs
  · rename_i i a r
    unfold ja_ai1 at hs
    split at hs
    · rename_i t n f hg
      split at hs
      · rename_i hp
        obtain ⟨hp, hi⟩ := hp
        have hp : t = 0 := of_decide_eq_true hp
        obtain ⟨rfl, rfl, rfl, rfl⟩ := jx_nx hs
        have k0 := kk.same hL hH hS
        subst hp
        exact va_iald hC.1 hC.2.1 hC.kn (jr_Pa (hH.2 _ _ hg).1) 0 0 rfl (ja_tys_at (t := 0) (by decide)) (jr_vi hi) hd k0
      · cases hs
    · cases hs
  · cases hs
theorem jw_baload (hd : decode (ja_by M) pc = .ok (.baload, 1)) (hs : ja_ai (fun t => decide (t = 1 ∨ t = 4)) (pc + 1) L st h = some (.inl (pc', L', st', h'))) (hC : jr_C p l s m args meth c M D dA lo K) (hL : jr_L ls (ja_mx M) L) (hH : jr_H D dA h H) (hlo : ja_lo h = lo) (hk : ja_k h = K) (hS : va_S (ja_A lo) s.heap H locs) (hR : jr_R R cells slots h h') (kk : jr_KK p l e R s m args below meth c Q M D dA lo cells slots h h' pc' L' st') : W p l e R s m args below meth c H locs cells slots Q (F0 m pc ls st) := by
  unfold ja_ai at hs
  split at hs
  · rename_i i a r
    unfold ja_ai1 at hs
    split at hs
    · rename_i t n f hg
      split at hs
      · rename_i hp
        obtain ⟨hp, hi⟩ := hp
        have hp : t = 1 ∨ t = 4 := of_decide_eq_true hp
        obtain ⟨rfl, rfl, rfl, rfl⟩ := jx_nx hs
        have k0 := kk.same hL hH hS
        rcases hp with rfl | rfl
        · exact va_bald hC.1 hC.2.1 hC.kn (jr_Pa (hH.2 _ _ hg).1) 0 1 rfl (ja_tys_at (t := 1) (by decide)) (jr_vi hi) hd k0
        · exact va_zald hC.1 hC.2.1 hC.kn (jr_Pa (hH.2 _ _ hg).1) 0 4 rfl (ja_tys_at (t := 4) (by decide)) (jr_vi hi) hd k0
      · cases hs
    · cases hs
  · cases hs
theorem jw_caload (hd : decode (ja_by M) pc = .ok (.caload, 1)) (hs : ja_ai (fun t => decide (t = 2)) (pc + 1) L st h = some (.inl (pc', L', st', h'))) (hC : jr_C p l s m args meth c M D dA lo K) (hL : jr_L ls (ja_mx M) L) (hH : jr_H D dA h H) (hlo : ja_lo h = lo) (hk : ja_k h = K) (hS : va_S (ja_A lo) s.heap H locs) (hR : jr_R R cells slots h h') (kk : jr_KK p l e R s m args below meth c Q M D dA lo cells slots h h' pc' L' st') : W p l e R s m args below meth c H locs cells slots Q (F0 m pc ls st) := by
  unfold ja_ai at hs
  split at hs
  · rename_i i a r
    unfold ja_ai1 at hs
    split at hs
    · rename_i t n f hg
      split at hs
      · rename_i hp
        obtain ⟨hp, hi⟩ := hp
        have hp : t = 2 := of_decide_eq_true hp
        obtain ⟨rfl, rfl, rfl, rfl⟩ := jx_nx hs
        have k0 := kk.same hL hH hS
        subst hp
        exact va_cald hC.1 hC.2.1 hC.kn (jr_Pa (hH.2 _ _ hg).1) 0 2 rfl (ja_tys_at (t := 2) (by decide)) (jr_vi hi) hd k0
      · cases hs
    · cases hs
  · cases hs
theorem jw_laload (hd : decode (ja_by M) pc = .ok (.laload, 1)) (hs : ja_ax (pc + 1) L st h = some (.inl (pc', L', st', h'))) (hC : jr_C p l s m args meth c M D dA lo K) (hL : jr_L ls (ja_mx M) L) (hH : jr_H D dA h H) (hlo : ja_lo h = lo) (hk : ja_k h = K) (hS : va_S (ja_A lo) s.heap H locs) (hR : jr_R R cells slots h h') (kk : jr_KK p l e R s m args below meth c Q M D dA lo cells slots h h' pc' L' st') : W p l e R s m args below meth c H locs cells slots Q (F0 m pc ls st) := by
  unfold ja_ax at hs
  split at hs
  · rename_i i a r
    unfold ja_ax1 at hs
    split at hs
    · rename_i n f hg
      split at hs
      · rename_i hi
        obtain ⟨rfl, rfl, rfl, rfl⟩ := jx_nx hs
        exact va_lald hC.1 hC.2.1 hC.kn (jr_Pa (hH.2 _ _ hg).1) 0 3 rfl (ja_tys_at (t := 3) (by decide)) (jr_vi hi) hd (kk.same hL hH hS)
      · cases hs
    · cases hs
  · cases hs
theorem jw_aaload (hd : decode (ja_by M) pc = .ok (.aaload, 1)) (hs : ja_aq (pc + 1) L st h = some (.inl (pc', L', st', h'))) (hC : jr_C p l s m args meth c M D dA lo K) (hL : jr_L ls (ja_mx M) L) (hH : jr_H D dA h H) (hlo : ja_lo h = lo) (hk : ja_k h = K) (hS : va_S (ja_A lo) s.heap H locs) (hR : jr_R R cells slots h h') (kk : jr_KK p l e R s m args below meth c Q M D dA lo cells slots h h' pc' L' st') : W p l e R s m args below meth c H locs cells slots Q (F0 m pc ls st) := by
  unfold ja_aq at hs
  split at hs
  · rename_i i a r
    unfold ja_aq1 at hs
    split at hs
    · rename_i t n f hg
      split at hs
      · rename_i hi
        obtain ⟨h5, h7, hi⟩ := hi
        obtain ⟨rfl, rfl, rfl, rfl⟩ := jx_nx hs
        have k0 := kk.same hL hH hS
        rcases (show t = 5 ∨ t = 6 ∨ t = 7 by omega) with rfl | rfl | rfl
        · exact va_aldq hC.1 hC.2.1 hC.kn (jr_Pa (hH.2 _ _ hg).1) 0 5 rfl (ja_tys_at (t := 5) (by decide)) (jr_vi hi) hd k0
        · exact va_aldq hC.1 hC.2.1 hC.kn (jr_Pa (hH.2 _ _ hg).1) 0 6 rfl (ja_tys_at (t := 6) (by decide)) (jr_vi hi) hd k0
        · exact va_aldq hC.1 hC.2.1 hC.kn (jr_Pa (hH.2 _ _ hg).1) 0 7 rfl (ja_tys_at (t := 7) (by decide)) (jr_vi hi) hd k0
      · cases hs
    · cases hs
  · cases hs
theorem jw_iastore (hd : decode (ja_by M) pc = .ok (.iastore, 1)) (hs : ja_bi ja_zI (pc + 1) L st h = some (.inl (pc', L', st', h'))) (hC : jr_C p l s m args meth c M D dA lo K) (hL : jr_L ls (ja_mx M) L) (hH : jr_H D dA h H) (hlo : ja_lo h = lo) (hk : ja_k h = K) (hS : va_S (ja_A lo) s.heap H locs) (hR : jr_R R cells slots h h') (kk : jr_KK p l e R s m args below meth c Q M D dA lo cells slots h h' pc' L' st') : W p l e R s m args below meth c H locs cells slots Q (F0 m pc ls st) := by
  unfold ja_bi at hs
  split at hs
  · rename_i x i a r
    unfold ja_bi1 at hs
    split at hs
    · rename_i t n f hg
      split at hs
      · rename_i z0 hz
        split at hs
        · rename_i hi
          obtain ⟨hla, hi⟩ := hi
          obtain ⟨rfl, rfl, rfl, rfl⟩ := jx_nx hs
          have haA : ja_A lo a := by rw [← hlo]; exact hla
          unfold ja_zI at hz
          split at hz
          · cases hz
            refine jw_bst hC.1 hC.2.1 hC.kn hS haA (hH.2 _ _ hg).1 (jr_vi hi) (Or.inl ⟨rfl, rfl, rfl⟩) hd (fun H1 locs1 z oq hat hS1 => kk.upd hL hH z oq hat (by rw [hg]; rfl) ⟨by decide, by decide, fun j hj => ?_⟩ hS1)
            show fits _ (.int (ja_up f i.toNatClampNeg _ j)) = true
            unfold ja_up
            split
            · exact (fun _ => rfl) x
            · exact (hH.2 _ _ hg).2.2.2 j hj
          · cases hz
        · cases hs
      · cases hs
    · cases hs
  · cases hs
theorem jw_castore (hd : decode (ja_by M) pc = .ok (.castore, 1)) (hs : ja_bi ja_zC (pc + 1) L st h = some (.inl (pc', L', st', h'))) (hC : jr_C p l s m args meth c M D dA lo K) (hL : jr_L ls (ja_mx M) L) (hH : jr_H D dA h H) (hlo : ja_lo h = lo) (hk : ja_k h = K) (hS : va_S (ja_A lo) s.heap H locs) (hR : jr_R R cells slots h h') (kk : jr_KK p l e R s m args below meth c Q M D dA lo cells slots h h' pc' L' st') : W p l e R s m args below meth c H locs cells slots Q (F0 m pc ls st) := by
  unfold ja_bi at hs
  split at hs
  · rename_i x i a r
    unfold ja_bi1 at hs
    split at hs
    · rename_i t n f hg
      split at hs
      · rename_i z0 hz
        split at hs
        · rename_i hi
          obtain ⟨hla, hi⟩ := hi
          obtain ⟨rfl, rfl, rfl, rfl⟩ := jx_nx hs
          have haA : ja_A lo a := by rw [← hlo]; exact hla
          unfold ja_zC at hz
          split at hz
          · cases hz
            refine jw_bst hC.1 hC.2.1 hC.kn hS haA (hH.2 _ _ hg).1 (jr_vi hi) (Or.inr (Or.inl ⟨rfl, rfl, rfl⟩)) hd (fun H1 locs1 z oq hat hS1 => kk.upd hL hH z oq hat (by rw [hg]; rfl) ⟨by decide, by decide, fun j hj => ?_⟩ hS1)
            show fits _ (.int (ja_up f i.toNatClampNeg _ j)) = true
            unfold ja_up
            split
            · exact (fun x => pk_fc x) x
            · exact (hH.2 _ _ hg).2.2.2 j hj
          · cases hz
        · cases hs
      · cases hs
    · cases hs
  · cases hs
theorem jw_fz (x : Int32) : fits .boolean (.int (x &&& 1)) = true := by
  have h := pk_and x (m := 1) 1 rfl
  rw [h]
  have h2 : x.toBitVec.toNat % 2 ^ 1 < 2 := Nat.mod_lt _ (by decide)
  generalize x.toBitVec.toNat % 2 ^ 1 = k at h2
  rcases (show k = 0 ∨ k = 1 by omega) with rfl | rfl <;> rfl
theorem jw_bastore (hd : decode (ja_by M) pc = .ok (.bastore, 1)) (hs : ja_bi ja_zB (pc + 1) L st h = some (.inl (pc', L', st', h'))) (hC : jr_C p l s m args meth c M D dA lo K) (hL : jr_L ls (ja_mx M) L) (hH : jr_H D dA h H) (hlo : ja_lo h = lo) (hk : ja_k h = K) (hS : va_S (ja_A lo) s.heap H locs) (hR : jr_R R cells slots h h') (kk : jr_KK p l e R s m args below meth c Q M D dA lo cells slots h h' pc' L' st') : W p l e R s m args below meth c H locs cells slots Q (F0 m pc ls st) := by
  unfold ja_bi at hs
  split at hs
  · rename_i x i a r
    unfold ja_bi1 at hs
    split at hs
    · rename_i t n f hg
      split at hs
      · rename_i z0 hz
        split at hs
        · rename_i hi
          obtain ⟨hla, hi⟩ := hi
          obtain ⟨rfl, rfl, rfl, rfl⟩ := jx_nx hs
          have haA : ja_A lo a := by rw [← hlo]; exact hla
          unfold ja_zB at hz
          split at hz
          · cases hz
            refine jw_bst hC.1 hC.2.1 hC.kn hS haA (hH.2 _ _ hg).1 (jr_vi hi) (Or.inr (Or.inr (Or.inl ⟨rfl, rfl, rfl⟩))) hd (fun H1 locs1 z oq hat hS1 => kk.upd hL hH z oq hat (by rw [hg]; rfl) ⟨by decide, by decide, fun j hj => ?_⟩ hS1)
            show fits _ (.int (ja_up f i.toNatClampNeg _ j)) = true
            unfold ja_up
            split
            · exact (fun x => pk_fb x) x
            · exact (hH.2 _ _ hg).2.2.2 j hj
          · cases hz
            refine jw_bst hC.1 hC.2.1 hC.kn hS haA (hH.2 _ _ hg).1 (jr_vi hi) (Or.inr (Or.inr (Or.inr ⟨rfl, rfl, rfl⟩))) hd (fun H1 locs1 z oq hat hS1 => kk.upd hL hH z oq hat (by rw [hg]; rfl) ⟨by decide, by decide, fun j hj => ?_⟩ hS1)
            show fits _ (.int (ja_up f i.toNatClampNeg _ j)) = true
            unfold ja_up
            split
            · exact (fun x => jw_fz x) x
            · exact (hH.2 _ _ hg).2.2.2 j hj
          · cases hz
        · cases hs
      · cases hs
    · cases hs
  · cases hs
theorem jw_lastore (hd : decode (ja_by M) pc = .ok (.lastore, 1)) (hs : ja_bx (pc + 1) L st h = some (.inl (pc', L', st', h'))) (hC : jr_C p l s m args meth c M D dA lo K) (hL : jr_L ls (ja_mx M) L) (hH : jr_H D dA h H) (hlo : ja_lo h = lo) (hk : ja_k h = K) (hS : va_S (ja_A lo) s.heap H locs) (hR : jr_R R cells slots h h') (kk : jr_KK p l e R s m args below meth c Q M D dA lo cells slots h h' pc' L' st') : W p l e R s m args below meth c H locs cells slots Q (F0 m pc ls st) := by
  unfold ja_bx at hs
  split at hs
  · rename_i x i a r
    unfold ja_bx1 at hs
    split at hs
    · rename_i n f hg
      split at hs
      · rename_i hi
        obtain ⟨hla, hi⟩ := hi
        obtain ⟨rfl, rfl, rfl, rfl⟩ := jx_nx hs
        exact jw_lst hC.1 hC.2.1 hC.kn hS (by rw [← hlo]; exact hla) (hH.2 _ _ hg).1 (jr_vi hi) hd (fun H1 locs1 z oq hat hS1 => kk.upd hL hH z oq hat (by rw [hg]; rfl) rfl hS1)
      · cases hs
    · cases hs
  · cases hs
end STEPS2
