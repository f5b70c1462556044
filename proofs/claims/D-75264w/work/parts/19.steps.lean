/-! SOUNDNESS, fifth: a lemma an instruction; by program (gen/snd.py) -/
section STEPS
variable {p : Program} {l : Launch} {e : Env} {R : Room} {s : State} {m : MethodId} {args : Array Value} {below : List Frame} {meth : Method} {c : Code} {Q : State → Prop}
variable {M : Nat} {D : va_G} {dA : Nat → ClassId} {lo : Nat} {K : Nat → Value} {pc pc' : Nat} {L L' : ja_L} {st st' : List Value} {h h' : ja_H} {ls : Array Slot} {H : Heap} {locs : List Loc} {cells slots : Nat}
theorem jw_iload_n {k : Fin 4} (hd : decode (ja_by M) pc = .ok (.iload_n k, 1)) (hs : ja_li (ja_gt k L) (pc + 1) L st h = some (.inl (pc', L', st', h'))) (hC : jr_C p l s m args meth c M D dA lo K) (hL : jr_L ls (ja_mx M) L) (hH : jr_H D dA h H) (hlo : ja_lo h = lo) (hk : ja_k h = K) (hS : va_S (ja_A lo) s.heap H locs) (hR : jr_R R cells slots h h') (kk : jr_KK p l e R s m args below meth c Q M D dA lo cells slots h h' pc' L' st') : W p l e R s m args below meth c H locs cells slots Q (F0 m pc ls st) := by
  unfold ja_li at hs
  split at hs
  · rename_i hg
    obtain ⟨rfl, rfl, rfl, rfl⟩ := jx_nx hs
    exact lv_iload_n hC.1 hC.2.1 hd rfl (hL.at hg) (kk.same hL hH hS)
  · cases hs
theorem jw_iload {k : Nat} (hd : decode (ja_by M) pc = .ok (.iload k, 2)) (hs : ja_li (ja_gt k L) (pc + 2) L st h = some (.inl (pc', L', st', h'))) (hC : jr_C p l s m args meth c M D dA lo K) (hL : jr_L ls (ja_mx M) L) (hH : jr_H D dA h H) (hlo : ja_lo h = lo) (hk : ja_k h = K) (hS : va_S (ja_A lo) s.heap H locs) (hR : jr_R R cells slots h h') (kk : jr_KK p l e R s m args below meth c Q M D dA lo cells slots h h' pc' L' st') : W p l e R s m args below meth c H locs cells slots Q (F0 m pc ls st) := by
  unfold ja_li at hs
  split at hs
  · rename_i hg
    obtain ⟨rfl, rfl, rfl, rfl⟩ := jx_nx hs
    exact lv_iload hC.1 hC.2.1 hd (hL.at hg) (kk.same hL hH hS)
  · cases hs
theorem jw_lload_n {k : Fin 4} (hd : decode (ja_by M) pc = .ok (.lload_n k, 1)) (hs : ja_ll (ja_gt k L) (pc + 1) L st h = some (.inl (pc', L', st', h'))) (hC : jr_C p l s m args meth c M D dA lo K) (hL : jr_L ls (ja_mx M) L) (hH : jr_H D dA h H) (hlo : ja_lo h = lo) (hk : ja_k h = K) (hS : va_S (ja_A lo) s.heap H locs) (hR : jr_R R cells slots h h') (kk : jr_KK p l e R s m args below meth c Q M D dA lo cells slots h h' pc' L' st') : W p l e R s m args below meth c H locs cells slots Q (F0 m pc ls st) := by
  unfold ja_ll at hs
  split at hs
  · rename_i hg
    obtain ⟨rfl, rfl, rfl, rfl⟩ := jx_nx hs
    exact lv_lload_n hC.1 hC.2.1 hd rfl (hL.at hg) (kk.same hL hH hS)
  · cases hs
theorem jw_lload {k : Nat} (hd : decode (ja_by M) pc = .ok (.lload k, 2)) (hs : ja_ll (ja_gt k L) (pc + 2) L st h = some (.inl (pc', L', st', h'))) (hC : jr_C p l s m args meth c M D dA lo K) (hL : jr_L ls (ja_mx M) L) (hH : jr_H D dA h H) (hlo : ja_lo h = lo) (hk : ja_k h = K) (hS : va_S (ja_A lo) s.heap H locs) (hR : jr_R R cells slots h h') (kk : jr_KK p l e R s m args below meth c Q M D dA lo cells slots h h' pc' L' st') : W p l e R s m args below meth c H locs cells slots Q (F0 m pc ls st) := by
  unfold ja_ll at hs
  split at hs
  · rename_i hg
    obtain ⟨rfl, rfl, rfl, rfl⟩ := jx_nx hs
    exact lv_lload hC.1 hC.2.1 hd (hL.at hg) (kk.same hL hH hS)
  · cases hs
theorem jw_dload_n {k : Fin 4} (hd : decode (ja_by M) pc = .ok (.dload_n k, 1)) (hs : ja_ld (ja_gt k L) (pc + 1) L st h = some (.inl (pc', L', st', h'))) (hC : jr_C p l s m args meth c M D dA lo K) (hL : jr_L ls (ja_mx M) L) (hH : jr_H D dA h H) (hlo : ja_lo h = lo) (hk : ja_k h = K) (hS : va_S (ja_A lo) s.heap H locs) (hR : jr_R R cells slots h h') (kk : jr_KK p l e R s m args below meth c Q M D dA lo cells slots h h' pc' L' st') : W p l e R s m args below meth c H locs cells slots Q (F0 m pc ls st) := by
  unfold ja_ld at hs
  split at hs
  · rename_i hg
    obtain ⟨rfl, rfl, rfl, rfl⟩ := jx_nx hs
    exact lv_dload_n hC.1 hC.2.1 hd rfl (hL.at hg) (kk.same hL hH hS)
  · cases hs
theorem jw_dload {k : Nat} (hd : decode (ja_by M) pc = .ok (.dload k, 2)) (hs : ja_ld (ja_gt k L) (pc + 2) L st h = some (.inl (pc', L', st', h'))) (hC : jr_C p l s m args meth c M D dA lo K) (hL : jr_L ls (ja_mx M) L) (hH : jr_H D dA h H) (hlo : ja_lo h = lo) (hk : ja_k h = K) (hS : va_S (ja_A lo) s.heap H locs) (hR : jr_R R cells slots h h') (kk : jr_KK p l e R s m args below meth c Q M D dA lo cells slots h h' pc' L' st') : W p l e R s m args below meth c H locs cells slots Q (F0 m pc ls st) := by
  unfold ja_ld at hs
  split at hs
  · rename_i hg
    obtain ⟨rfl, rfl, rfl, rfl⟩ := jx_nx hs
    exact lv_dload hC.1 hC.2.1 hd (hL.at hg) (kk.same hL hH hS)
  · cases hs
theorem jw_aload_n {k : Fin 4} (hd : decode (ja_by M) pc = .ok (.aload_n k, 1)) (hs : ja_la (ja_gt k L) (pc + 1) L st h = some (.inl (pc', L', st', h'))) (hC : jr_C p l s m args meth c M D dA lo K) (hL : jr_L ls (ja_mx M) L) (hH : jr_H D dA h H) (hlo : ja_lo h = lo) (hk : ja_k h = K) (hS : va_S (ja_A lo) s.heap H locs) (hR : jr_R R cells slots h h') (kk : jr_KK p l e R s m args below meth c Q M D dA lo cells slots h h' pc' L' st') : W p l e R s m args below meth c H locs cells slots Q (F0 m pc ls st) := by
  unfold ja_la at hs
  split at hs
  · rename_i hg
    obtain ⟨rfl, rfl, rfl, rfl⟩ := jx_nx hs
    exact lv_aload_n hC.1 hC.2.1 hd rfl (hL.at hg) (kk.same hL hH hS)
  · rename_i hg
    obtain ⟨rfl, rfl, rfl, rfl⟩ := jx_nx hs
    exact lv_aload_nN hC.1 hC.2.1 hd rfl (hL.at hg) (kk.same hL hH hS)
  · cases hs
theorem jw_aload {k : Nat} (hd : decode (ja_by M) pc = .ok (.aload k, 2)) (hs : ja_la (ja_gt k L) (pc + 2) L st h = some (.inl (pc', L', st', h'))) (hC : jr_C p l s m args meth c M D dA lo K) (hL : jr_L ls (ja_mx M) L) (hH : jr_H D dA h H) (hlo : ja_lo h = lo) (hk : ja_k h = K) (hS : va_S (ja_A lo) s.heap H locs) (hR : jr_R R cells slots h h') (kk : jr_KK p l e R s m args below meth c Q M D dA lo cells slots h h' pc' L' st') : W p l e R s m args below meth c H locs cells slots Q (F0 m pc ls st) := by
  unfold ja_la at hs
  split at hs
  · rename_i hg
    obtain ⟨rfl, rfl, rfl, rfl⟩ := jx_nx hs
    exact lv_aload hC.1 hC.2.1 hd (hL.at hg) (kk.same hL hH hS)
  · rename_i hg
    obtain ⟨rfl, rfl, rfl, rfl⟩ := jx_nx hs
    exact lv_aloadN hC.1 hC.2.1 hd (hL.at hg) (kk.same hL hH hS)
  · cases hs
theorem jw_istore_n {k : Fin 4} (hd : decode (ja_by M) pc = .ok (.istore_n k, 1)) (hs : ja_si k (pc + 1) L st h = some (.inl (pc', L', st', h'))) (hC : jr_C p l s m args meth c M D dA lo K) (hL : jr_L ls (ja_mx M) L) (hH : jr_H D dA h H) (hlo : ja_lo h = lo) (hk : ja_k h = K) (hS : va_S (ja_A lo) s.heap H locs) (hR : jr_R R cells slots h h') (kk : jr_KK p l e R s m args below meth c Q M D dA lo cells slots h h' pc' L' st') : W p l e R s m args below meth c H locs cells slots Q (F0 m pc ls st) := by
  unfold ja_si at hs
  split at hs
  · split at hs
    · rename_i hlt
      obtain ⟨rfl, rfl, rfl, rfl⟩ := jx_nx hs
      exact lv_istore_n hC.1 hC.2.1 hd rfl hL.2 (by rw [← hL.1]; exact hlt) rfl (fun ls' hl' => kk.same (hL.p1 hlt hl') hH hS)
    · cases hs
  · cases hs
theorem jw_istore {k : Nat} (hd : decode (ja_by M) pc = .ok (.istore k, 2)) (hs : ja_si k (pc + 2) L st h = some (.inl (pc', L', st', h'))) (hC : jr_C p l s m args meth c M D dA lo K) (hL : jr_L ls (ja_mx M) L) (hH : jr_H D dA h H) (hlo : ja_lo h = lo) (hk : ja_k h = K) (hS : va_S (ja_A lo) s.heap H locs) (hR : jr_R R cells slots h h') (kk : jr_KK p l e R s m args below meth c Q M D dA lo cells slots h h' pc' L' st') : W p l e R s m args below meth c H locs cells slots Q (F0 m pc ls st) := by
  unfold ja_si at hs
  split at hs
  · split at hs
    · rename_i hlt
      obtain ⟨rfl, rfl, rfl, rfl⟩ := jx_nx hs
      exact lv_istore hC.1 hC.2.1 hd hL.2 (by rw [← hL.1]; exact hlt) rfl (fun ls' hl' => kk.same (hL.p1 hlt hl') hH hS)
    · cases hs
  · cases hs
theorem jw_lstore_n {k : Fin 4} (hd : decode (ja_by M) pc = .ok (.lstore_n k, 1)) (hs : ja_sll k (pc + 1) L st h = some (.inl (pc', L', st', h'))) (hC : jr_C p l s m args meth c M D dA lo K) (hL : jr_L ls (ja_mx M) L) (hH : jr_H D dA h H) (hlo : ja_lo h = lo) (hk : ja_k h = K) (hS : va_S (ja_A lo) s.heap H locs) (hR : jr_R R cells slots h h') (kk : jr_KK p l e R s m args below meth c Q M D dA lo cells slots h h' pc' L' st') : W p l e R s m args below meth c H locs cells slots Q (F0 m pc ls st) := by
  unfold ja_sll at hs
  split at hs
  · split at hs
    · rename_i hlt
      obtain ⟨rfl, rfl, rfl, rfl⟩ := jx_nx hs
      exact lv_lstore_n hC.1 hC.2.1 hd rfl hL.2 (by rw [← hL.1]; exact hlt) rfl (fun ls' hl' => kk.same (hL.p2 hlt hl') hH hS)
    · cases hs
  · cases hs
theorem jw_lstore {k : Nat} (hd : decode (ja_by M) pc = .ok (.lstore k, 2)) (hs : ja_sll k (pc + 2) L st h = some (.inl (pc', L', st', h'))) (hC : jr_C p l s m args meth c M D dA lo K) (hL : jr_L ls (ja_mx M) L) (hH : jr_H D dA h H) (hlo : ja_lo h = lo) (hk : ja_k h = K) (hS : va_S (ja_A lo) s.heap H locs) (hR : jr_R R cells slots h h') (kk : jr_KK p l e R s m args below meth c Q M D dA lo cells slots h h' pc' L' st') : W p l e R s m args below meth c H locs cells slots Q (F0 m pc ls st) := by
  unfold ja_sll at hs
  split at hs
  · split at hs
    · rename_i hlt
      obtain ⟨rfl, rfl, rfl, rfl⟩ := jx_nx hs
      exact lv_lstore hC.1 hC.2.1 hd hL.2 (by rw [← hL.1]; exact hlt) rfl (fun ls' hl' => kk.same (hL.p2 hlt hl') hH hS)
    · cases hs
  · cases hs
theorem jw_dstore_n {k : Fin 4} (hd : decode (ja_by M) pc = .ok (.dstore_n k, 1)) (hs : ja_sd k (pc + 1) L st h = some (.inl (pc', L', st', h'))) (hC : jr_C p l s m args meth c M D dA lo K) (hL : jr_L ls (ja_mx M) L) (hH : jr_H D dA h H) (hlo : ja_lo h = lo) (hk : ja_k h = K) (hS : va_S (ja_A lo) s.heap H locs) (hR : jr_R R cells slots h h') (kk : jr_KK p l e R s m args below meth c Q M D dA lo cells slots h h' pc' L' st') : W p l e R s m args below meth c H locs cells slots Q (F0 m pc ls st) := by
  unfold ja_sd at hs
  split at hs
  · split at hs
    · rename_i hlt
      obtain ⟨rfl, rfl, rfl, rfl⟩ := jx_nx hs
      exact lv_dstore_n hC.1 hC.2.1 hd rfl hL.2 (by rw [← hL.1]; exact hlt) rfl (fun ls' hl' => kk.same (hL.p2 hlt hl') hH hS)
    · cases hs
  · cases hs
theorem jw_dstore {k : Nat} (hd : decode (ja_by M) pc = .ok (.dstore k, 2)) (hs : ja_sd k (pc + 2) L st h = some (.inl (pc', L', st', h'))) (hC : jr_C p l s m args meth c M D dA lo K) (hL : jr_L ls (ja_mx M) L) (hH : jr_H D dA h H) (hlo : ja_lo h = lo) (hk : ja_k h = K) (hS : va_S (ja_A lo) s.heap H locs) (hR : jr_R R cells slots h h') (kk : jr_KK p l e R s m args below meth c Q M D dA lo cells slots h h' pc' L' st') : W p l e R s m args below meth c H locs cells slots Q (F0 m pc ls st) := by
  unfold ja_sd at hs
  split at hs
  · split at hs
    · rename_i hlt
      obtain ⟨rfl, rfl, rfl, rfl⟩ := jx_nx hs
      exact lv_dstore hC.1 hC.2.1 hd hL.2 (by rw [← hL.1]; exact hlt) rfl (fun ls' hl' => kk.same (hL.p2 hlt hl') hH hS)
    · cases hs
  · cases hs
theorem jw_astore_n {k : Fin 4} (hd : decode (ja_by M) pc = .ok (.astore_n k, 1)) (hs : ja_sa k (pc + 1) L st h = some (.inl (pc', L', st', h'))) (hC : jr_C p l s m args meth c M D dA lo K) (hL : jr_L ls (ja_mx M) L) (hH : jr_H D dA h H) (hlo : ja_lo h = lo) (hk : ja_k h = K) (hS : va_S (ja_A lo) s.heap H locs) (hR : jr_R R cells slots h h') (kk : jr_KK p l e R s m args below meth c Q M D dA lo cells slots h h' pc' L' st') : W p l e R s m args below meth c H locs cells slots Q (F0 m pc ls st) := by
  unfold ja_sa at hs
  split at hs
  · split at hs
    · rename_i hlt
      obtain ⟨rfl, rfl, rfl, rfl⟩ := jx_nx hs
      exact lv_astore_n hC.1 hC.2.1 hd rfl hL.2 (by rw [← hL.1]; exact hlt) rfl (fun ls' hl' => kk.same (hL.p1 hlt hl') hH hS)
    · cases hs
  · split at hs
    · rename_i hlt
      obtain ⟨rfl, rfl, rfl, rfl⟩ := jx_nx hs
      exact lv_astore_nN hC.1 hC.2.1 hd rfl hL.2 (by rw [← hL.1]; exact hlt) rfl (fun ls' hl' => kk.same (hL.p1 hlt hl') hH hS)
    · cases hs
  · cases hs
theorem jw_astore {k : Nat} (hd : decode (ja_by M) pc = .ok (.astore k, 2)) (hs : ja_sa k (pc + 2) L st h = some (.inl (pc', L', st', h'))) (hC : jr_C p l s m args meth c M D dA lo K) (hL : jr_L ls (ja_mx M) L) (hH : jr_H D dA h H) (hlo : ja_lo h = lo) (hk : ja_k h = K) (hS : va_S (ja_A lo) s.heap H locs) (hR : jr_R R cells slots h h') (kk : jr_KK p l e R s m args below meth c Q M D dA lo cells slots h h' pc' L' st') : W p l e R s m args below meth c H locs cells slots Q (F0 m pc ls st) := by
  unfold ja_sa at hs
  split at hs
  · split at hs
    · rename_i hlt
      obtain ⟨rfl, rfl, rfl, rfl⟩ := jx_nx hs
      exact lv_astore hC.1 hC.2.1 hd hL.2 (by rw [← hL.1]; exact hlt) rfl (fun ls' hl' => kk.same (hL.p1 hlt hl') hH hS)
    · cases hs
  · split at hs
    · rename_i hlt
      obtain ⟨rfl, rfl, rfl, rfl⟩ := jx_nx hs
      exact lv_astoreN hC.1 hC.2.1 hd hL.2 (by rw [← hL.1]; exact hlt) rfl (fun ls' hl' => kk.same (hL.p1 hlt hl') hH hS)
    · cases hs
  · cases hs
theorem jw_iadd (hd : decode (ja_by M) pc = .ok (.iadd, 1)) (hs : ja_ii (fun x y => x + y) (pc + 1) L st h = some (.inl (pc', L', st', h'))) (hC : jr_C p l s m args meth c M D dA lo K) (hL : jr_L ls (ja_mx M) L) (hH : jr_H D dA h H) (hlo : ja_lo h = lo) (hk : ja_k h = K) (hS : va_S (ja_A lo) s.heap H locs) (hR : jr_R R cells slots h h') (kk : jr_KK p l e R s m args below meth c Q M D dA lo cells slots h h' pc' L' st') : W p l e R s m args below meth c H locs cells slots Q (F0 m pc ls st) := by
  unfold ja_ii at hs
  split at hs
  · obtain ⟨rfl, rfl, rfl, rfl⟩ := jx_nx hs
    exact lv_iadd hC.1 hC.2.1 hd (kk.same hL hH hS)
  · cases hs
theorem jw_isub (hd : decode (ja_by M) pc = .ok (.isub, 1)) (hs : ja_ii (fun x y => x - y) (pc + 1) L st h = some (.inl (pc', L', st', h'))) (hC : jr_C p l s m args meth c M D dA lo K) (hL : jr_L ls (ja_mx M) L) (hH : jr_H D dA h H) (hlo : ja_lo h = lo) (hk : ja_k h = K) (hS : va_S (ja_A lo) s.heap H locs) (hR : jr_R R cells slots h h') (kk : jr_KK p l e R s m args below meth c Q M D dA lo cells slots h h' pc' L' st') : W p l e R s m args below meth c H locs cells slots Q (F0 m pc ls st) := by
  unfold ja_ii at hs
  split at hs
  · obtain ⟨rfl, rfl, rfl, rfl⟩ := jx_nx hs
    exact lv_isub hC.1 hC.2.1 hd (kk.same hL hH hS)
  · cases hs
theorem jw_imul (hd : decode (ja_by M) pc = .ok (.imul, 1)) (hs : ja_ii (fun x y => x * y) (pc + 1) L st h = some (.inl (pc', L', st', h'))) (hC : jr_C p l s m args meth c M D dA lo K) (hL : jr_L ls (ja_mx M) L) (hH : jr_H D dA h H) (hlo : ja_lo h = lo) (hk : ja_k h = K) (hS : va_S (ja_A lo) s.heap H locs) (hR : jr_R R cells slots h h') (kk : jr_KK p l e R s m args below meth c Q M D dA lo cells slots h h' pc' L' st') : W p l e R s m args below meth c H locs cells slots Q (F0 m pc ls st) := by
  unfold ja_ii at hs
  split at hs
  · obtain ⟨rfl, rfl, rfl, rfl⟩ := jx_nx hs
    exact lv_imul hC.1 hC.2.1 hd (kk.same hL hH hS)
  · cases hs
theorem jw_iand (hd : decode (ja_by M) pc = .ok (.iand, 1)) (hs : ja_ii (fun x y => x &&& y) (pc + 1) L st h = some (.inl (pc', L', st', h'))) (hC : jr_C p l s m args meth c M D dA lo K) (hL : jr_L ls (ja_mx M) L) (hH : jr_H D dA h H) (hlo : ja_lo h = lo) (hk : ja_k h = K) (hS : va_S (ja_A lo) s.heap H locs) (hR : jr_R R cells slots h h') (kk : jr_KK p l e R s m args below meth c Q M D dA lo cells slots h h' pc' L' st') : W p l e R s m args below meth c H locs cells slots Q (F0 m pc ls st) := by
  unfold ja_ii at hs
  split at hs
  · obtain ⟨rfl, rfl, rfl, rfl⟩ := jx_nx hs
    exact lv_iand hC.1 hC.2.1 hd (kk.same hL hH hS)
  · cases hs
theorem jw_ior (hd : decode (ja_by M) pc = .ok (.ior, 1)) (hs : ja_ii (fun x y => x ||| y) (pc + 1) L st h = some (.inl (pc', L', st', h'))) (hC : jr_C p l s m args meth c M D dA lo K) (hL : jr_L ls (ja_mx M) L) (hH : jr_H D dA h H) (hlo : ja_lo h = lo) (hk : ja_k h = K) (hS : va_S (ja_A lo) s.heap H locs) (hR : jr_R R cells slots h h') (kk : jr_KK p l e R s m args below meth c Q M D dA lo cells slots h h' pc' L' st') : W p l e R s m args below meth c H locs cells slots Q (F0 m pc ls st) := by
  unfold ja_ii at hs
  split at hs
  · obtain ⟨rfl, rfl, rfl, rfl⟩ := jx_nx hs
    exact lv_ior hC.1 hC.2.1 hd (kk.same hL hH hS)
  · cases hs
theorem jw_ixor (hd : decode (ja_by M) pc = .ok (.ixor, 1)) (hs : ja_ii (fun x y => x ^^^ y) (pc + 1) L st h = some (.inl (pc', L', st', h'))) (hC : jr_C p l s m args meth c M D dA lo K) (hL : jr_L ls (ja_mx M) L) (hH : jr_H D dA h H) (hlo : ja_lo h = lo) (hk : ja_k h = K) (hS : va_S (ja_A lo) s.heap H locs) (hR : jr_R R cells slots h h') (kk : jr_KK p l e R s m args below meth c Q M D dA lo cells slots h h' pc' L' st') : W p l e R s m args below meth c H locs cells slots Q (F0 m pc ls st) := by
  unfold ja_ii at hs
  split at hs
  · obtain ⟨rfl, rfl, rfl, rfl⟩ := jx_nx hs
    exact lv_ixor hC.1 hC.2.1 hd (kk.same hL hH hS)
  · cases hs
theorem jw_ishl (hd : decode (ja_by M) pc = .ok (.ishl, 1)) (hs : ja_ii (fun x y => x <<< (y &&& 31)) (pc + 1) L st h = some (.inl (pc', L', st', h'))) (hC : jr_C p l s m args meth c M D dA lo K) (hL : jr_L ls (ja_mx M) L) (hH : jr_H D dA h H) (hlo : ja_lo h = lo) (hk : ja_k h = K) (hS : va_S (ja_A lo) s.heap H locs) (hR : jr_R R cells slots h h') (kk : jr_KK p l e R s m args below meth c Q M D dA lo cells slots h h' pc' L' st') : W p l e R s m args below meth c H locs cells slots Q (F0 m pc ls st) := by
  unfold ja_ii at hs
  split at hs
  · obtain ⟨rfl, rfl, rfl, rfl⟩ := jx_nx hs
    exact lv_ishl hC.1 hC.2.1 hd (kk.same hL hH hS)
  · cases hs
theorem jw_ishr (hd : decode (ja_by M) pc = .ok (.ishr, 1)) (hs : ja_ii (fun x y => x >>> (y &&& 31)) (pc + 1) L st h = some (.inl (pc', L', st', h'))) (hC : jr_C p l s m args meth c M D dA lo K) (hL : jr_L ls (ja_mx M) L) (hH : jr_H D dA h H) (hlo : ja_lo h = lo) (hk : ja_k h = K) (hS : va_S (ja_A lo) s.heap H locs) (hR : jr_R R cells slots h h') (kk : jr_KK p l e R s m args below meth c Q M D dA lo cells slots h h' pc' L' st') : W p l e R s m args below meth c H locs cells slots Q (F0 m pc ls st) := by
  unfold ja_ii at hs
  split at hs
  · obtain ⟨rfl, rfl, rfl, rfl⟩ := jx_nx hs
    exact lv_ishr hC.1 hC.2.1 hd (kk.same hL hH hS)
  · cases hs
theorem jw_iushr (hd : decode (ja_by M) pc = .ok (.iushr, 1)) (hs : ja_ii (fun x y => (x.toUInt32 >>> (y.toUInt32 &&& Int32.toUInt32 31)).toInt32) (pc + 1) L st h = some (.inl (pc', L', st', h'))) (hC : jr_C p l s m args meth c M D dA lo K) (hL : jr_L ls (ja_mx M) L) (hH : jr_H D dA h H) (hlo : ja_lo h = lo) (hk : ja_k h = K) (hS : va_S (ja_A lo) s.heap H locs) (hR : jr_R R cells slots h h') (kk : jr_KK p l e R s m args below meth c Q M D dA lo cells slots h h' pc' L' st') : W p l e R s m args below meth c H locs cells slots Q (F0 m pc ls st) := by
  unfold ja_ii at hs
  split at hs
  · obtain ⟨rfl, rfl, rfl, rfl⟩ := jx_nx hs
    exact lv_iushr hC.1 hC.2.1 hd rfl (kk.same hL hH hS)
  · cases hs
theorem jw_idiv (hd : decode (ja_by M) pc = .ok (.idiv, 1)) (hs : ja_dv (fun x y => x / y) (pc + 1) L st h = some (.inl (pc', L', st', h'))) (hC : jr_C p l s m args meth c M D dA lo K) (hL : jr_L ls (ja_mx M) L) (hH : jr_H D dA h H) (hlo : ja_lo h = lo) (hk : ja_k h = K) (hS : va_S (ja_A lo) s.heap H locs) (hR : jr_R R cells slots h h') (kk : jr_KK p l e R s m args below meth c Q M D dA lo cells slots h h' pc' L' st') : W p l e R s m args below meth c H locs cells slots Q (F0 m pc ls st) := by
  unfold ja_dv at hs
  split at hs
  · split at hs
    · cases hs
    · rename_i hz
      obtain ⟨rfl, rfl, rfl, rfl⟩ := jx_nx hs
      exact lv_idiv hC.1 hC.2.1 hd hz (kk.same hL hH hS)
  · cases hs
theorem jw_irem (hd : decode (ja_by M) pc = .ok (.irem, 1)) (hs : ja_dv (fun x y => x - x / y * y) (pc + 1) L st h = some (.inl (pc', L', st', h'))) (hC : jr_C p l s m args meth c M D dA lo K) (hL : jr_L ls (ja_mx M) L) (hH : jr_H D dA h H) (hlo : ja_lo h = lo) (hk : ja_k h = K) (hS : va_S (ja_A lo) s.heap H locs) (hR : jr_R R cells slots h h') (kk : jr_KK p l e R s m args below meth c Q M D dA lo cells slots h h' pc' L' st') : W p l e R s m args below meth c H locs cells slots Q (F0 m pc ls st) := by
  unfold ja_dv at hs
  split at hs
  · split at hs
    · cases hs
    · rename_i hz
      obtain ⟨rfl, rfl, rfl, rfl⟩ := jx_nx hs
      exact lv_irem hC.1 hC.2.1 hd hz (kk.same hL hH hS)
  · cases hs
theorem jw_i2l (hd : decode (ja_by M) pc = .ok (.i2l, 1)) (hs : ja_i1 (fun x => .long x.toInt64) (pc + 1) L st h = some (.inl (pc', L', st', h'))) (hC : jr_C p l s m args meth c M D dA lo K) (hL : jr_L ls (ja_mx M) L) (hH : jr_H D dA h H) (hlo : ja_lo h = lo) (hk : ja_k h = K) (hS : va_S (ja_A lo) s.heap H locs) (hR : jr_R R cells slots h h') (kk : jr_KK p l e R s m args below meth c Q M D dA lo cells slots h h' pc' L' st') : W p l e R s m args below meth c H locs cells slots Q (F0 m pc ls st) := by
  unfold ja_i1 at hs
  split at hs
  · obtain ⟨rfl, rfl, rfl, rfl⟩ := jx_nx hs
    exact lv_i2l hC.1 hC.2.1 hd rfl (kk.same hL hH hS)
  · cases hs
theorem jw_i2b (hd : decode (ja_by M) pc = .ok (.i2b, 1)) (hs : ja_i1 (fun x => .int x.toInt8.toInt32) (pc + 1) L st h = some (.inl (pc', L', st', h'))) (hC : jr_C p l s m args meth c M D dA lo K) (hL : jr_L ls (ja_mx M) L) (hH : jr_H D dA h H) (hlo : ja_lo h = lo) (hk : ja_k h = K) (hS : va_S (ja_A lo) s.heap H locs) (hR : jr_R R cells slots h h') (kk : jr_KK p l e R s m args below meth c Q M D dA lo cells slots h h' pc' L' st') : W p l e R s m args below meth c H locs cells slots Q (F0 m pc ls st) := by
  unfold ja_i1 at hs
  split at hs
  · obtain ⟨rfl, rfl, rfl, rfl⟩ := jx_nx hs
    exact lv_i2b hC.1 hC.2.1 hd rfl (kk.same hL hH hS)
  · cases hs
theorem jw_i2c (hd : decode (ja_by M) pc = .ok (.i2c, 1)) (hs : ja_i1 (fun x => .int (x.toUInt32 % 65536).toInt32) (pc + 1) L st h = some (.inl (pc', L', st', h'))) (hC : jr_C p l s m args meth c M D dA lo K) (hL : jr_L ls (ja_mx M) L) (hH : jr_H D dA h H) (hlo : ja_lo h = lo) (hk : ja_k h = K) (hS : va_S (ja_A lo) s.heap H locs) (hR : jr_R R cells slots h h') (kk : jr_KK p l e R s m args below meth c Q M D dA lo cells slots h h' pc' L' st') : W p l e R s m args below meth c H locs cells slots Q (F0 m pc ls st) := by
  unfold ja_i1 at hs
  split at hs
  · obtain ⟨rfl, rfl, rfl, rfl⟩ := jx_nx hs
    exact lv_i2c hC.1 hC.2.1 hd rfl (kk.same hL hH hS)
  · cases hs
theorem jw_i2d (hd : decode (ja_by M) pc = .ok (.i2d, 1)) (hs : ja_i1 (fun x => .double (FP.i2d x)) (pc + 1) L st h = some (.inl (pc', L', st', h'))) (hC : jr_C p l s m args meth c M D dA lo K) (hL : jr_L ls (ja_mx M) L) (hH : jr_H D dA h H) (hlo : ja_lo h = lo) (hk : ja_k h = K) (hS : va_S (ja_A lo) s.heap H locs) (hR : jr_R R cells slots h h') (kk : jr_KK p l e R s m args below meth c Q M D dA lo cells slots h h' pc' L' st') : W p l e R s m args below meth c H locs cells slots Q (F0 m pc ls st) := by
  unfold ja_i1 at hs
  split at hs
  · obtain ⟨rfl, rfl, rfl, rfl⟩ := jx_nx hs
    exact lv_i2d hC.1 hC.2.1 hd (kk.same hL hH hS)
  · cases hs
theorem jw_ineg (hd : decode (ja_by M) pc = .ok (.ineg, 1)) (hs : ja_i1 (fun x => .int (-x)) (pc + 1) L st h = some (.inl (pc', L', st', h'))) (hC : jr_C p l s m args meth c M D dA lo K) (hL : jr_L ls (ja_mx M) L) (hH : jr_H D dA h H) (hlo : ja_lo h = lo) (hk : ja_k h = K) (hS : va_S (ja_A lo) s.heap H locs) (hR : jr_R R cells slots h h') (kk : jr_KK p l e R s m args below meth c Q M D dA lo cells slots h h' pc' L' st') : W p l e R s m args below meth c H locs cells slots Q (F0 m pc ls st) := by
  unfold ja_i1 at hs
  split at hs
  · obtain ⟨rfl, rfl, rfl, rfl⟩ := jx_nx hs
    exact lv_ineg hC.1 hC.2.1 hd (kk.same hL hH hS)
  · cases hs
theorem jw_l2i (hd : decode (ja_by M) pc = .ok (.l2i, 1)) (hs : ja_l1 (fun x => .int x.toInt32) (pc + 1) L st h = some (.inl (pc', L', st', h'))) (hC : jr_C p l s m args meth c M D dA lo K) (hL : jr_L ls (ja_mx M) L) (hH : jr_H D dA h H) (hlo : ja_lo h = lo) (hk : ja_k h = K) (hS : va_S (ja_A lo) s.heap H locs) (hR : jr_R R cells slots h h') (kk : jr_KK p l e R s m args below meth c Q M D dA lo cells slots h h' pc' L' st') : W p l e R s m args below meth c H locs cells slots Q (F0 m pc ls st) := by
  unfold ja_l1 at hs
  split at hs
  · obtain ⟨rfl, rfl, rfl, rfl⟩ := jx_nx hs
    exact lv_l2i hC.1 hC.2.1 hd rfl (kk.same hL hH hS)
  · cases hs
theorem jw_lcmp (hd : decode (ja_by M) pc = .ok (.lcmp, 1)) (hs : ja_lll (fun x y => .int (lg_cmp x y)) (pc + 1) L st h = some (.inl (pc', L', st', h'))) (hC : jr_C p l s m args meth c M D dA lo K) (hL : jr_L ls (ja_mx M) L) (hH : jr_H D dA h H) (hlo : ja_lo h = lo) (hk : ja_k h = K) (hS : va_S (ja_A lo) s.heap H locs) (hR : jr_R R cells slots h h') (kk : jr_KK p l e R s m args below meth c Q M D dA lo cells slots h h' pc' L' st') : W p l e R s m args below meth c H locs cells slots Q (F0 m pc ls st) := by
  unfold ja_lll at hs
  split at hs
  · obtain ⟨rfl, rfl, rfl, rfl⟩ := jx_nx hs
    exact W.lcmp hC.1 hC.2.1 hd (kk.same hL hH hS)
  · cases hs
theorem jw_land (hd : decode (ja_by M) pc = .ok (.land, 1)) (hs : ja_lll (fun x y => .long (x &&& y)) (pc + 1) L st h = some (.inl (pc', L', st', h'))) (hC : jr_C p l s m args meth c M D dA lo K) (hL : jr_L ls (ja_mx M) L) (hH : jr_H D dA h H) (hlo : ja_lo h = lo) (hk : ja_k h = K) (hS : va_S (ja_A lo) s.heap H locs) (hR : jr_R R cells slots h h') (kk : jr_KK p l e R s m args below meth c Q M D dA lo cells slots h h' pc' L' st') : W p l e R s m args below meth c H locs cells slots Q (F0 m pc ls st) := by
  unfold ja_lll at hs
  split at hs
  · obtain ⟨rfl, rfl, rfl, rfl⟩ := jx_nx hs
    exact lv_land hC.1 hC.2.1 hd (kk.same hL hH hS)
  · cases hs
theorem jw_lor (hd : decode (ja_by M) pc = .ok (.lor, 1)) (hs : ja_lll (fun x y => .long (x ||| y)) (pc + 1) L st h = some (.inl (pc', L', st', h'))) (hC : jr_C p l s m args meth c M D dA lo K) (hL : jr_L ls (ja_mx M) L) (hH : jr_H D dA h H) (hlo : ja_lo h = lo) (hk : ja_k h = K) (hS : va_S (ja_A lo) s.heap H locs) (hR : jr_R R cells slots h h') (kk : jr_KK p l e R s m args below meth c Q M D dA lo cells slots h h' pc' L' st') : W p l e R s m args below meth c H locs cells slots Q (F0 m pc ls st) := by
  unfold ja_lll at hs
  split at hs
  · obtain ⟨rfl, rfl, rfl, rfl⟩ := jx_nx hs
    exact lv_lor hC.1 hC.2.1 hd (kk.same hL hH hS)
  · cases hs
theorem jw_lshl (hd : decode (ja_by M) pc = .ok (.lshl, 1)) (hs : ja_lli (fun x y => x <<< (y.toInt64 &&& 63)) (pc + 1) L st h = some (.inl (pc', L', st', h'))) (hC : jr_C p l s m args meth c M D dA lo K) (hL : jr_L ls (ja_mx M) L) (hH : jr_H D dA h H) (hlo : ja_lo h = lo) (hk : ja_k h = K) (hS : va_S (ja_A lo) s.heap H locs) (hR : jr_R R cells slots h h') (kk : jr_KK p l e R s m args below meth c Q M D dA lo cells slots h h' pc' L' st') : W p l e R s m args below meth c H locs cells slots Q (F0 m pc ls st) := by
  unfold ja_lli at hs
  split at hs
  · obtain ⟨rfl, rfl, rfl, rfl⟩ := jx_nx hs
    exact lv_lshl hC.1 hC.2.1 hd rfl (kk.same hL hH hS)
  · cases hs
theorem jw_lshr (hd : decode (ja_by M) pc = .ok (.lshr, 1)) (hs : ja_lli (fun x y => x >>> (y.toInt64 &&& 63)) (pc + 1) L st h = some (.inl (pc', L', st', h'))) (hC : jr_C p l s m args meth c M D dA lo K) (hL : jr_L ls (ja_mx M) L) (hH : jr_H D dA h H) (hlo : ja_lo h = lo) (hk : ja_k h = K) (hS : va_S (ja_A lo) s.heap H locs) (hR : jr_R R cells slots h h') (kk : jr_KK p l e R s m args below meth c Q M D dA lo cells slots h h' pc' L' st') : W p l e R s m args below meth c H locs cells slots Q (F0 m pc ls st) := by
  unfold ja_lli at hs
  split at hs
  · obtain ⟨rfl, rfl, rfl, rfl⟩ := jx_nx hs
    exact lv_lshr hC.1 hC.2.1 hd rfl (kk.same hL hH hS)
  · cases hs
theorem jw_iconst {n : Int} (hd : decode (ja_by M) pc = .ok (.iconst n, 1)) (hs : ja_nx (pc + 1) L (.int (Int32.ofInt n) :: st) h = some (.inl (pc', L', st', h'))) (hC : jr_C p l s m args meth c M D dA lo K) (hL : jr_L ls (ja_mx M) L) (hH : jr_H D dA h H) (hlo : ja_lo h = lo) (hk : ja_k h = K) (hS : va_S (ja_A lo) s.heap H locs) (hR : jr_R R cells slots h h') (kk : jr_KK p l e R s m args below meth c Q M D dA lo cells slots h h' pc' L' st') : W p l e R s m args below meth c H locs cells slots Q (F0 m pc ls st) := by
  obtain ⟨rfl, rfl, rfl, rfl⟩ := jx_nx hs
  exact lv_iconst hC.1 hC.2.1 hd rfl (kk.same hL hH hS)
theorem jw_bipush {n : Int} (hd : decode (ja_by M) pc = .ok (.bipush n, 2)) (hs : ja_nx (pc + 2) L (.int (Int8.ofInt n).toInt32 :: st) h = some (.inl (pc', L', st', h'))) (hC : jr_C p l s m args meth c M D dA lo K) (hL : jr_L ls (ja_mx M) L) (hH : jr_H D dA h H) (hlo : ja_lo h = lo) (hk : ja_k h = K) (hS : va_S (ja_A lo) s.heap H locs) (hR : jr_R R cells slots h h') (kk : jr_KK p l e R s m args below meth c Q M D dA lo cells slots h h' pc' L' st') : W p l e R s m args below meth c H locs cells slots Q (F0 m pc ls st) := by
  obtain ⟨rfl, rfl, rfl, rfl⟩ := jx_nx hs
  exact lv_bipush hC.1 hC.2.1 hd rfl (kk.same hL hH hS)
theorem jw_sipush {n : Int} (hd : decode (ja_by M) pc = .ok (.sipush n, 3)) (hs : ja_nx (pc + 3) L (.int (Int16.ofInt n).toInt32 :: st) h = some (.inl (pc', L', st', h'))) (hC : jr_C p l s m args meth c M D dA lo K) (hL : jr_L ls (ja_mx M) L) (hH : jr_H D dA h H) (hlo : ja_lo h = lo) (hk : ja_k h = K) (hS : va_S (ja_A lo) s.heap H locs) (hR : jr_R R cells slots h h') (kk : jr_KK p l e R s m args below meth c Q M D dA lo cells slots h h' pc' L' st') : W p l e R s m args below meth c H locs cells slots Q (F0 m pc ls st) := by
  obtain ⟨rfl, rfl, rfl, rfl⟩ := jx_nx hs
  exact lv_sipush hC.1 hC.2.1 hd rfl (kk.same hL hH hS)
theorem jw_lconst {n : Fin 2} (hd : decode (ja_by M) pc = .ok (.lconst n, 1)) (hs : ja_nx (pc + 1) L (.long (Int64.ofNat (n : Nat)) :: st) h = some (.inl (pc', L', st', h'))) (hC : jr_C p l s m args meth c M D dA lo K) (hL : jr_L ls (ja_mx M) L) (hH : jr_H D dA h H) (hlo : ja_lo h = lo) (hk : ja_k h = K) (hS : va_S (ja_A lo) s.heap H locs) (hR : jr_R R cells slots h h') (kk : jr_KK p l e R s m args below meth c Q M D dA lo cells slots h h' pc' L' st') : W p l e R s m args below meth c H locs cells slots Q (F0 m pc ls st) := by
  obtain ⟨rfl, rfl, rfl, rfl⟩ := jx_nx hs
  exact lv_lconst hC.1 hC.2.1 hd rfl (kk.same hL hH hS)
theorem jw_aconst_null (hd : decode (ja_by M) pc = .ok (.aconst_null, 1)) (hs : ja_nx (pc + 1) L (.null :: st) h = some (.inl (pc', L', st', h'))) (hC : jr_C p l s m args meth c M D dA lo K) (hL : jr_L ls (ja_mx M) L) (hH : jr_H D dA h H) (hlo : ja_lo h = lo) (hk : ja_k h = K) (hS : va_S (ja_A lo) s.heap H locs) (hR : jr_R R cells slots h h') (kk : jr_KK p l e R s m args below meth c Q M D dA lo cells slots h h' pc' L' st') : W p l e R s m args below meth c H locs cells slots Q (F0 m pc ls st) := by
  obtain ⟨rfl, rfl, rfl, rfl⟩ := jx_nx hs
  exact lv_null hC.1 hC.2.1 hd (kk.same hL hH hS)
theorem jw_dconst {n : Fin 2} (hd : decode (ja_by M) pc = .ok (.dconst n, 1)) (hs : ja_ps (decide (n = 0)) (.double FP.dconst0) (pc + 1) L st h = some (.inl (pc', L', st', h'))) (hC : jr_C p l s m args meth c M D dA lo K) (hL : jr_L ls (ja_mx M) L) (hH : jr_H D dA h H) (hlo : ja_lo h = lo) (hk : ja_k h = K) (hS : va_S (ja_A lo) s.heap H locs) (hR : jr_R R cells slots h h') (kk : jr_KK p l e R s m args below meth c Q M D dA lo cells slots h h' pc' L' st') : W p l e R s m args below meth c H locs cells slots Q (F0 m pc ls st) := by
  unfold ja_ps at hs
  split at hs
  · rename_i hz
    have hz : n = 0 := by simpa using hz
    subst hz
    obtain ⟨rfl, rfl, rfl, rfl⟩ := jx_nx hs
    exact lv_dconst0 hC.1 hC.2.1 hd (kk.same hL hH hS)
  · cases hs
theorem jw_goto {off : Int} (hd : decode (ja_by M) pc = .ok (.goto off, 3)) (hs : ja_jp (ja_tg pc off) L st h = some (.inl (pc', L', st', h'))) (hC : jr_C p l s m args meth c M D dA lo K) (hL : jr_L ls (ja_mx M) L) (hH : jr_H D dA h H) (hlo : ja_lo h = lo) (hk : ja_k h = K) (hS : va_S (ja_A lo) s.heap H locs) (hR : jr_R R cells slots h h') (kk : jr_KK p l e R s m args below meth c Q M D dA lo cells slots h h' pc' L' st') : W p l e R s m args below meth c H locs cells slots Q (F0 m pc ls st) := by
  obtain ⟨ht, rfl, rfl, rfl⟩ := jx_jp hs
  exact lv_goto hC.1 hC.2.1 hd (ja_tg_ok ht) (kk.same hL hH hS)
theorem jx_br {c : Prop} [Decidable c] {t : Option Nat} {f p' : Nat} {L L' : ja_L} {st st' : List Value} {h h' : ja_H} (q : ja_br c t f L st h = some (.inl (p', L', st', h'))) : ∃ t0, t = some t0 ∧ L = L' ∧ st = st' ∧ h = h' ∧ (c → t0 = p') ∧ (¬ c → f = p') := by
  unfold ja_br at q
  split at q
  · split at q
    · rename_i hc
      have q1 := jx_nx q
      exact ⟨_, rfl, q1.2.1, q1.2.2.1, q1.2.2.2, fun _ => q1.1, fun z => absurd hc z⟩
    · rename_i hc
      have q1 := jx_nx q
      exact ⟨_, rfl, q1.2.1, q1.2.2.1, q1.2.2.2, fun z => absurd z hc, fun _ => q1.1⟩
  · cases q
theorem jw_if_icmp {k : Jvm.ClassFile.Cond} {off : Int} (hd : decode (ja_by M) pc = .ok (.if_icmp k off, 3)) (hs : ja_ic k (ja_tg pc off) (pc + 3) L st h = some (.inl (pc', L', st', h'))) (hC : jr_C p l s m args meth c M D dA lo K) (hL : jr_L ls (ja_mx M) L) (hH : jr_H D dA h H) (hlo : ja_lo h = lo) (hk : ja_k h = K) (hS : va_S (ja_A lo) s.heap H locs) (hR : jr_R R cells slots h h') (kk : jr_KK p l e R s m args below meth c Q M D dA lo cells slots h h' pc' L' st') : W p l e R s m args below meth c H locs cells slots Q (F0 m pc ls st) := by
  unfold ja_ic at hs
  split at hs
  · obtain ⟨t0, ht, rfl, rfl, rfl, h1, h2⟩ := jx_br hs
    have k0 := kk.same hL hH hS
    exact lv_icmp_eq hC.1 hC.2.1 hd (ja_tg_ok ht) (fun z => by rw [h1 z]; exact k0) (fun z => by rw [h2 z]; exact k0)
  · obtain ⟨t0, ht, rfl, rfl, rfl, h1, h2⟩ := jx_br hs
    have k0 := kk.same hL hH hS
    exact lv_icmp_ne hC.1 hC.2.1 hd (ja_tg_ok ht) (fun z => by rw [h1 z]; exact k0) (fun z => by rw [h2 (not_not_intro z)]; exact k0)
  · obtain ⟨t0, ht, rfl, rfl, rfl, h1, h2⟩ := jx_br hs
    have k0 := kk.same hL hH hS
    exact lv_icmp_lt hC.1 hC.2.1 hd (ja_tg_ok ht) (fun z => by rw [h1 z]; exact k0) (fun z => by rw [h2 z]; exact k0)
  · obtain ⟨t0, ht, rfl, rfl, rfl, h1, h2⟩ := jx_br hs
    have k0 := kk.same hL hH hS
    exact lv_icmp_ge hC.1 hC.2.1 hd (ja_tg_ok ht) (fun z => by rw [h1 z]; exact k0) (fun z => by rw [h2 z]; exact k0)
  · obtain ⟨t0, ht, rfl, rfl, rfl, h1, h2⟩ := jx_br hs
    have k0 := kk.same hL hH hS
    exact lv_icmp_gt hC.1 hC.2.1 hd (ja_tg_ok ht) (fun z => by rw [h1 z]; exact k0) (fun z => by rw [h2 z]; exact k0)
  · obtain ⟨t0, ht, rfl, rfl, rfl, h1, h2⟩ := jx_br hs
    have k0 := kk.same hL hH hS
    exact lv_icmp_le hC.1 hC.2.1 hd (ja_tg_ok ht) (fun z => by rw [h1 z]; exact k0) (fun z => by rw [h2 z]; exact k0)
  · cases hs
theorem jw_ifCond {k : Jvm.ClassFile.Cond} {off : Int} (hd : decode (ja_by M) pc = .ok (.ifCond k off, 3)) (hs : ja_i0 k (ja_tg pc off) (pc + 3) L st h = some (.inl (pc', L', st', h'))) (hC : jr_C p l s m args meth c M D dA lo K) (hL : jr_L ls (ja_mx M) L) (hH : jr_H D dA h H) (hlo : ja_lo h = lo) (hk : ja_k h = K) (hS : va_S (ja_A lo) s.heap H locs) (hR : jr_R R cells slots h h') (kk : jr_KK p l e R s m args below meth c Q M D dA lo cells slots h h' pc' L' st') : W p l e R s m args below meth c H locs cells slots Q (F0 m pc ls st) := by
  unfold ja_i0 at hs
  split at hs
  · obtain ⟨t0, ht, rfl, rfl, rfl, h1, h2⟩ := jx_br hs
    have k0 := kk.same hL hH hS
    exact lv_if_eq hC.1 hC.2.1 hd (ja_tg_ok ht) (fun z => by rw [h1 z]; exact k0) (fun z => by rw [h2 z]; exact k0)
  · obtain ⟨t0, ht, rfl, rfl, rfl, h1, h2⟩ := jx_br hs
    have k0 := kk.same hL hH hS
    exact lv_if_ne hC.1 hC.2.1 hd (ja_tg_ok ht) (fun z => by rw [h1 z]; exact k0) (fun z => by rw [h2 (not_not_intro z)]; exact k0)
  · obtain ⟨t0, ht, rfl, rfl, rfl, h1, h2⟩ := jx_br hs
    have k0 := kk.same hL hH hS
    exact lv_if_lt hC.1 hC.2.1 hd (ja_tg_ok ht) (fun z => by rw [h1 z]; exact k0) (fun z => by rw [h2 z]; exact k0)
  · obtain ⟨t0, ht, rfl, rfl, rfl, h1, h2⟩ := jx_br hs
    have k0 := kk.same hL hH hS
    exact lv_if_ge hC.1 hC.2.1 hd (ja_tg_ok ht) (fun z => by rw [h1 z]; exact k0) (fun z => by rw [h2 z]; exact k0)
  · obtain ⟨t0, ht, rfl, rfl, rfl, h1, h2⟩ := jx_br hs
    have k0 := kk.same hL hH hS
    exact lv_if_gt hC.1 hC.2.1 hd (ja_tg_ok ht) (fun z => by rw [h1 z]; exact k0) (fun z => by rw [h2 z]; exact k0)
  · obtain ⟨t0, ht, rfl, rfl, rfl, h1, h2⟩ := jx_br hs
    have k0 := kk.same hL hH hS
    exact lv_if_le hC.1 hC.2.1 hd (ja_tg_ok ht) (fun z => by rw [h1 z]; exact k0) (fun z => by rw [h2 z]; exact k0)
  · cases hs
theorem jw_if_acmp {k : Jvm.ClassFile.ACond} {off : Int} (hd : decode (ja_by M) pc = .ok (.if_acmp k off, 3)) (hs : ja_ac k (ja_tg pc off) (pc + 3) L st h = some (.inl (pc', L', st', h'))) (hC : jr_C p l s m args meth c M D dA lo K) (hL : jr_L ls (ja_mx M) L) (hH : jr_H D dA h H) (hlo : ja_lo h = lo) (hk : ja_k h = K) (hS : va_S (ja_A lo) s.heap H locs) (hR : jr_R R cells slots h h') (kk : jr_KK p l e R s m args below meth c Q M D dA lo cells slots h h' pc' L' st') : W p l e R s m args below meth c H locs cells slots Q (F0 m pc ls st) := by
  unfold ja_ac at hs
  split at hs
  · rename_i y x r
    obtain ⟨t0, ht, rfl, rfl, rfl, h1, h2⟩ := jx_br hs
    have k0 := kk.same hL hH hS
    exact lv_acmp_eq (rx := some x) (ry := some y) hC.1 hC.2.1 hd (ja_tg_ok ht) (fun z => by rw [h1 (Option.some.inj z)]; exact k0) (fun z => by rw [h2 (fun q => z (congrArg some q))]; exact k0)
  · rename_i y x r
    obtain ⟨t0, ht, rfl, rfl, rfl, h1, h2⟩ := jx_br hs
    have k0 := kk.same hL hH hS
    exact lv_acmp_ne (rx := some x) (ry := some y) hC.1 hC.2.1 hd (ja_tg_ok ht) (fun z => by rw [h1 (fun q => z (congrArg some q))]; exact k0) (fun z => by rw [h2 (not_not_intro (Option.some.inj z))]; exact k0)
  · cases hs
theorem jx_nu_ifnull {t : Option Nat} {f : Nat} {r : ja_X} (q : ja_nu true t f L st h = r) (hr : r ≠ none) : (∃ r', st = .null :: r' ∧ ja_jp t L r' h = r) ∨ (∃ x r', st = .ref x :: r' ∧ ja_nx f L r' h = r) := by
  match st with
  | .null :: r' => exact Or.inl ⟨r', rfl, q⟩
  | .ref x :: r' => exact Or.inr ⟨x, r', rfl, q⟩
  | [] => exact absurd q.symm hr
  | .int _ :: _ => exact absurd q.symm hr
  | .long _ :: _ => exact absurd q.symm hr
  | .float _ :: _ => exact absurd q.symm hr
  | .double _ :: _ => exact absurd q.symm hr
  | .retAddr _ :: _ => exact absurd q.symm hr
theorem jw_ifnull {off : Int} (hd : decode (ja_by M) pc = .ok (.ifnull off, 3)) (hs : ja_nu true (ja_tg pc off) (pc + 3) L st h = some (.inl (pc', L', st', h'))) (hC : jr_C p l s m args meth c M D dA lo K) (hL : jr_L ls (ja_mx M) L) (hH : jr_H D dA h H) (hlo : ja_lo h = lo) (hk : ja_k h = K) (hS : va_S (ja_A lo) s.heap H locs) (hR : jr_R R cells slots h h') (kk : jr_KK p l e R s m args below meth c Q M D dA lo cells slots h h' pc' L' st') : W p l e R s m args below meth c H locs cells slots Q (F0 m pc ls st) := by
  rcases jx_nu_ifnull hs (by simp) with ⟨r, rfl, hs⟩ | ⟨x, r, rfl, hs⟩
  · obtain ⟨ht, rfl, rfl, rfl⟩ := jx_jp hs
    exact lv_ifnullN hC.1 hC.2.1 hd (ja_tg_ok ht) (kk.same hL hH hS)
  · obtain ⟨rfl, rfl, rfl, rfl⟩ := jx_nx hs
    exact lv_ifnull hC.1 hC.2.1 hd (kk.same hL hH hS)
theorem jx_nu_ifnonnull {t : Option Nat} {f : Nat} {r : ja_X} (q : ja_nu false t f L st h = r) (hr : r ≠ none) : (∃ r', st = .null :: r' ∧ ja_nx f L r' h = r) ∨ (∃ x r', st = .ref x :: r' ∧ ja_jp t L r' h = r) := by
  match st with
  | .null :: r' => exact Or.inl ⟨r', rfl, q⟩
  | .ref x :: r' => exact Or.inr ⟨x, r', rfl, q⟩
  | [] => exact absurd q.symm hr
  | .int _ :: _ => exact absurd q.symm hr
  | .long _ :: _ => exact absurd q.symm hr
  | .float _ :: _ => exact absurd q.symm hr
  | .double _ :: _ => exact absurd q.symm hr
  | .retAddr _ :: _ => exact absurd q.symm hr
theorem jw_ifnonnull {off : Int} (hd : decode (ja_by M) pc = .ok (.ifnonnull off, 3)) (hs : ja_nu false (ja_tg pc off) (pc + 3) L st h = some (.inl (pc', L', st', h'))) (hC : jr_C p l s m args meth c M D dA lo K) (hL : jr_L ls (ja_mx M) L) (hH : jr_H D dA h H) (hlo : ja_lo h = lo) (hk : ja_k h = K) (hS : va_S (ja_A lo) s.heap H locs) (hR : jr_R R cells slots h h') (kk : jr_KK p l e R s m args below meth c Q M D dA lo cells slots h h' pc' L' st') : W p l e R s m args below meth c H locs cells slots Q (F0 m pc ls st) := by
  rcases jx_nu_ifnonnull hs (by simp) with ⟨r, rfl, hs⟩ | ⟨x, r, rfl, hs⟩
  · obtain ⟨rfl, rfl, rfl, rfl⟩ := jx_nx hs
    exact lv_ifnonnullN hC.1 hC.2.1 hd (kk.same hL hH hS)
  · obtain ⟨ht, rfl, rfl, rfl⟩ := jx_jp hs
    exact lv_ifnonnull hC.1 hC.2.1 hd (ja_tg_ok ht) (kk.same hL hH hS)
theorem jw_dup (hd : decode (ja_by M) pc = .ok (.dup, 1)) (hs : ja_du (pc + 1) L st h = some (.inl (pc', L', st', h'))) (hC : jr_C p l s m args meth c M D dA lo K) (hL : jr_L ls (ja_mx M) L) (hH : jr_H D dA h H) (hlo : ja_lo h = lo) (hk : ja_k h = K) (hS : va_S (ja_A lo) s.heap H locs) (hR : jr_R R cells slots h h') (kk : jr_KK p l e R s m args below meth c Q M D dA lo cells slots h h' pc' L' st') : W p l e R s m args below meth c H locs cells slots Q (F0 m pc ls st) := by
  unfold ja_du at hs
  split at hs
  · split at hs
    · cases hs
    · rename_i hc
      obtain ⟨rfl, rfl, rfl, rfl⟩ := jx_nx hs
      exact lv_dup hC.1 hC.2.1 hd (ja_c2_cat2 hc) (kk.same hL hH hS)
  · cases hs
theorem jw_pop (hd : decode (ja_by M) pc = .ok (.pop, 1)) (hs : ja_po (pc + 1) L st h = some (.inl (pc', L', st', h'))) (hC : jr_C p l s m args meth c M D dA lo K) (hL : jr_L ls (ja_mx M) L) (hH : jr_H D dA h H) (hlo : ja_lo h = lo) (hk : ja_k h = K) (hS : va_S (ja_A lo) s.heap H locs) (hR : jr_R R cells slots h h') (kk : jr_KK p l e R s m args below meth c Q M D dA lo cells slots h h' pc' L' st') : W p l e R s m args below meth c H locs cells slots Q (F0 m pc ls st) := by
  unfold ja_po at hs
  split at hs
  · split at hs
    · cases hs
    · rename_i hc
      obtain ⟨rfl, rfl, rfl, rfl⟩ := jx_nx hs
      exact lv_pop hC.1 hC.2.1 hd (ja_c2_cat2 hc) (kk.same hL hH hS)
  · cases hs
theorem jw_dup_x1 (hd : decode (ja_by M) pc = .ok (.dup_x1, 1)) (hs : ja_d1 (pc + 1) L st h = some (.inl (pc', L', st', h'))) (hC : jr_C p l s m args meth c M D dA lo K) (hL : jr_L ls (ja_mx M) L) (hH : jr_H D dA h H) (hlo : ja_lo h = lo) (hk : ja_k h = K) (hS : va_S (ja_A lo) s.heap H locs) (hR : jr_R R cells slots h h') (kk : jr_KK p l e R s m args below meth c Q M D dA lo cells slots h h' pc' L' st') : W p l e R s m args below meth c H locs cells slots Q (F0 m pc ls st) := by
  unfold ja_d1 at hs
  split at hs
  · split at hs
    · cases hs
    · rename_i hc
      obtain ⟨rfl, rfl, rfl, rfl⟩ := jx_nx hs
      exact lv_dup_x1 hC.1 hC.2.1 hd (ja_c2_cat2 (fun z => hc (Or.inl z))) (ja_c2_cat2 (fun z => hc (Or.inr z))) (kk.same hL hH hS)
  · cases hs
theorem jw_dup2 (hd : decode (ja_by M) pc = .ok (.dup2, 1)) (hs : ja_d2 (pc + 1) L st h = some (.inl (pc', L', st', h'))) (hC : jr_C p l s m args meth c M D dA lo K) (hL : jr_L ls (ja_mx M) L) (hH : jr_H D dA h H) (hlo : ja_lo h = lo) (hk : ja_k h = K) (hS : va_S (ja_A lo) s.heap H locs) (hR : jr_R R cells slots h h') (kk : jr_KK p l e R s m args below meth c Q M D dA lo cells slots h h' pc' L' st') : W p l e R s m args below meth c H locs cells slots Q (F0 m pc ls st) := by
  unfold ja_d2 at hs
  split at hs
  · split at hs
    · cases hs
    · rename_i hc
      obtain ⟨rfl, rfl, rfl, rfl⟩ := jx_nx hs
      exact lv_dup2_11 hC.1 hC.2.1 hd (ja_c2_cat2 (fun z => hc (Or.inl z))) (ja_c2_cat2 (fun z => hc (Or.inr z))) (kk.same hL hH hS)
  · cases hs
theorem jw_iinc {k : Nat} {n : Int} (hd : decode (ja_by M) pc = .ok (.iinc k n, 3)) (hs : ja_inc (ja_gt k L) k (Int32.ofInt n) (pc + 3) L st h = some (.inl (pc', L', st', h'))) (hC : jr_C p l s m args meth c M D dA lo K) (hL : jr_L ls (ja_mx M) L) (hH : jr_H D dA h H) (hlo : ja_lo h = lo) (hk : ja_k h = K) (hS : va_S (ja_A lo) s.heap H locs) (hR : jr_R R cells slots h h') (kk : jr_KK p l e R s m args below meth c Q M D dA lo cells slots h h' pc' L' st') : W p l e R s m args below meth c H locs cells slots Q (F0 m pc ls st) := by
  unfold ja_inc at hs
  split at hs
  · rename_i x hg
    obtain ⟨rfl, rfl, rfl, rfl⟩ := jx_nx hs
    have hlt := ja_gt_lt hg
    obtain ⟨j, hj⟩ := List.getElem?_of_mem ((jl_mem L 0).mpr ⟨Nat.zero_le _, hg⟩)
    exact lv_iinc hC.1 hC.2.1 hd hL.2 hj rfl (by rw [← hL.1]; exact hlt) rfl (fun ls' hl' => kk.same (hL.p1 hlt hl') hH hS)
  · cases hs
theorem jw_dcmp {op : Jvm.ClassFile.CmpOp} (hd : decode (ja_by M) pc = .ok (.dcmp op, 1)) (hs : ja_dm op (pc + 1) L st h = some (.inl (pc', L', st', h'))) (hC : jr_C p l s m args meth c M D dA lo K) (hL : jr_L ls (ja_mx M) L) (hH : jr_H D dA h H) (hlo : ja_lo h = lo) (hk : ja_k h = K) (hS : va_S (ja_A lo) s.heap H locs) (hR : jr_R R cells slots h h') (kk : jr_KK p l e R s m args below meth c Q M D dA lo cells slots h h' pc' L' st') : W p l e R s m args below meth c H locs cells slots Q (F0 m pc ls st) := by
  unfold ja_dm at hs
  split at hs
  · obtain ⟨rfl, rfl, rfl, rfl⟩ := jx_nx hs
    exact lv_dcmp hC.1 hC.2.1 hd (kk.same hL hH hS)
  · cases hs
theorem jw_ddiv (hd : decode (ja_by M) pc = .ok (.ddiv, 1)) (hs : ja_dd (pc + 1) L st h = some (.inl (pc', L', st', h'))) (hC : jr_C p l s m args meth c M D dA lo K) (hL : jr_L ls (ja_mx M) L) (hH : jr_H D dA h H) (hlo : ja_lo h = lo) (hk : ja_k h = K) (hS : va_S (ja_A lo) s.heap H locs) (hR : jr_R R cells slots h h') (kk : jr_KK p l e R s m args below meth c Q M D dA lo cells slots h h' pc' L' st') : W p l e R s m args below meth c H locs cells slots Q (F0 m pc ls st) := by
  unfold ja_dd at hs
  split at hs
  · split at hs
    · rename_i hz
      obtain ⟨rfl, rfl, rfl, rfl⟩ := jx_nx hs
      exact lv_ddiv hC.1 hC.2.1 hd hz (kk.same hL hH hS)
    · cases hs
  · cases hs
theorem ja_lf_ok {pc p' : Nat} {x : Int} {d : Int} : ∀ {ps : List (Int × Int)}, ja_lf (ps.map (fun q => (q.1, ja_tg pc q.2))) (ja_tg pc d) x = some p' → (pc : Int) + Op.lookupswitch.offset ps d x = (p' : Int)
  | [], q => ja_tg_ok q
  | (a, o) :: r, q => by
    rw [Op.lookupswitch.offset_cons]
    rw [List.map_cons, ja_lf] at q
    split at q
    · rename_i hc
      rw [if_pos hc]
      exact ja_tg_ok q
    · rename_i hc
      rw [if_neg hc]
      exact ja_lf_ok q
theorem jw_lookupswitch {d : Int} {ps : Array (Int × Int)} {n : Nat} (hd : decode (ja_by M) pc = .ok (.lookupswitch d ps, n)) (hs : ja_ls (ja_so ps) (ja_tg pc d) (ps.toList.map (fun q => (q.1, ja_tg pc q.2))) L st h = some (.inl (pc', L', st', h'))) (hC : jr_C p l s m args meth c M D dA lo K) (hL : jr_L ls (ja_mx M) L) (hH : jr_H D dA h H) (hlo : ja_lo h = lo) (hk : ja_k h = K) (hS : va_S (ja_A lo) s.heap H locs) (hR : jr_R R cells slots h h') (kk : jr_KK p l e R s m args below meth c Q M D dA lo cells slots h h' pc' L' st') : W p l e R s m args below meth c H locs cells slots Q (F0 m pc ls st) := by
  unfold ja_ls at hs
  split at hs
  · rename_i hb
    obtain ⟨ht, rfl, rfl, rfl⟩ := jx_jp hs
    exact lv_lookup hC.1 hC.2.1 hd hb rfl (ja_lf_ok ht) (kk.same hL hH hS)
  · cases hs
theorem jw_tableswitch {d lo1 hi : Int} {os : Array Int} {n : Nat} (hd : decode (ja_by M) pc = .ok (.tableswitch d lo1 hi os, n)) (hs : ja_ts (ja_tg pc d) lo1 hi (os.toList.map (ja_tg pc)) L st h = some (.inl (pc', L', st', h'))) (hC : jr_C p l s m args meth c M D dA lo K) (hL : jr_L ls (ja_mx M) L) (hH : jr_H D dA h H) (hlo : ja_lo h = lo) (hk : ja_k h = K) (hS : va_S (ja_A lo) s.heap H locs) (hR : jr_R R cells slots h h') (kk : jr_KK p l e R s m args below meth c Q M D dA lo cells slots h h' pc' L' st') : W p l e R s m args below meth c H locs cells slots Q (F0 m pc ls st) := by
  unfold ja_ts at hs
  split at hs
  · split at hs
    · rename_i hc
      obtain ⟨ht, rfl, rfl, rfl⟩ := jx_jp hs
      exact lv_tableOut hC.1 hC.2.1 hd hc (ja_tg_ok ht) (kk.same hL hH hS)
    · rename_i hc
      split at hs
      · rename_i o ho
        obtain ⟨ht, rfl, rfl, rfl⟩ := jx_jp hs
        rw [List.getElem?_map, Option.map_eq_some_iff] at ho
        obtain ⟨off, ho1, ho2⟩ := ho
        rw [ht] at ho2
        exact lv_tableIn hC.1 hC.2.1 hd (fun z => hc (Or.inl z)) (fun z => hc (Or.inr z)) (by rw [← Array.getElem?_toList]; exact ho1) (ja_tg_ok ho2) (kk.same hL hH hS)
      · cases hs
  · cases hs
end STEPS
