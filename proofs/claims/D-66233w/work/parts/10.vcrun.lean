/-! VERIFICATION CONDITIONS GIVE THE RUN -/
set_option maxRecDepth 100000
section VR
variable {B : am_Bd} {r : am_MR} {pc nx : Nat} {ts : List Nat} {al : am_AL} {st : am_ST} {m : am_Mem} {K : am_K} {Q : am_Q}
theorem so_end {v : Option Value} (hs : st = v.toList) (hrt : am_rtn r pc v) (q : Q v m) : am_Run B r pc al st m Q := by
  intro p l e R s mid args below meth c H locs cells slots Qs ls b h0 Ln xs D aC C hH hS hL hR hE
  have := hE v m H locs pc ls q hH hS hrt
  have e1 : st.map (am_rv (am_ad b h0)) = (v.map (am_rv (am_ad b h0))).toList := by rw [hs]; cases v <;> rfl
  rw [e1]
  exact W.widen (Nat.le_add_right _ _) (Nat.le_add_right _ _) this
theorem so_ireturn (hd : decode r.2.1 pc = .ok (.ireturn, 1)) (h : ao_ireturn r.2.2.2.1 st m Q) : am_Run B r pc al st m Q := by
  unfold ao_ireturn at h
  split at h
  · rename_i v hr
    exact so_end (v := some (.int v)) rfl ⟨hd, Or.inl hr⟩ h
  · rename_i v hr
    exact so_end (v := some (.int v)) rfl ⟨hd, Or.inr ⟨hr, h.1⟩⟩ h.2
  · exact absurd h id
theorem so_lreturn (hd : decode r.2.1 pc = .ok (.lreturn, 1)) (h : ao_lreturn r.2.2.2.1 st m Q) : am_Run B r pc al st m Q := by
  unfold ao_lreturn at h
  split at h
  · rename_i v hr
    exact so_end (v := some (.long v)) rfl ⟨hr, hd⟩ h
  · exact absurd h id
theorem so_areturn (hd : decode r.2.1 pc = .ok (.areturn, 1)) (h : ao_areturn r.2.2.2.1 st m Q) : am_Run B r pc al st m Q := by
  unfold ao_areturn at h
  split at h
  · rename_i n v hr
    exact so_end (v := some (.ref v)) rfl ⟨⟨n, hr⟩, hd⟩ h
  · exact absurd h id
theorem so_return (hd : decode r.2.1 pc = .ok (.return_, 1)) (h : ao_return r.2.2.2.1 st m Q) : am_Run B r pc al st m Q := by
  unfold ao_return at h
  split at h
  · rename_i hr
    exact so_end (v := none) rfl ⟨hr, hd⟩ h
  · exact absurd h id
theorem am_fetch (hc : am_chk r.2.1 r.2.2.2.2.2.2.2 = true) {i : Instr} (ha : am_at r.2.2.2.2.2.2.2 pc = some (i, nx, ts)) {n : Nat} (hn : am_il i = n) (h0 : n ≠ 0) : decode r.2.1 pc = .ok (i, n) ∧ nx = pc + n ∧ ts.map Int.ofNat = am_tg pc i := by
  obtain ⟨h1, h2, h3, h4⟩ := am_chk_at hc ha
  rcases h4 with h4 | h4
  · exact absurd (hn.symm.trans h4) h0
  · rw [hn] at h4
    refine ⟨?_, h4, h3⟩
    rw [h1, h4, Nat.add_sub_cancel_left]
theorem am_sem_run {lf : am_LF} (hlf : ∀ P m, lf P m → P m) (hc : am_chk r.2.1 r.2.2.2.2.2.2.2 = true) (hci : r.2.2.2.2.1 < 13) {i : Instr} (ha : am_at r.2.2.2.2.2.2.2 pc = some (i, nx, ts)) (h : am_sem lf am_Rn r i nx ts B al st m K Q) (hK : am_KR r K Q) : am_Run B r pc al st m Q := by
  cases i with
  | iload_n k => obtain ⟨hd, hn, -⟩ := am_fetch (n := 1) hc ha rfl (by decide); exact so_loadI (Or.inl ⟨k, rfl, hd, hn⟩) h hK
  | iload k => obtain ⟨hd, hn, -⟩ := am_fetch (n := 2) hc ha rfl (by decide); exact so_loadI (Or.inr ⟨hd, hn⟩) h hK
  | lload_n k => obtain ⟨hd, hn, -⟩ := am_fetch (n := 1) hc ha rfl (by decide); exact so_loadL (Or.inl ⟨k, rfl, hd, hn⟩) h hK
  | lload k => obtain ⟨hd, hn, -⟩ := am_fetch (n := 2) hc ha rfl (by decide); exact so_loadL (Or.inr ⟨hd, hn⟩) h hK
  | aload_n k => obtain ⟨hd, hn, -⟩ := am_fetch (n := 1) hc ha rfl (by decide); exact so_loadA (Or.inl ⟨k, rfl, hd, hn⟩) h hK
  | aload k => obtain ⟨hd, hn, -⟩ := am_fetch (n := 2) hc ha rfl (by decide); exact so_loadA (Or.inr ⟨hd, hn⟩) h hK
  | istore_n k => obtain ⟨hd, hn, -⟩ := am_fetch (n := 1) hc ha rfl (by decide); exact so_storeI (Or.inl ⟨k, rfl, hd, hn⟩) h hK
  | istore k => obtain ⟨hd, hn, -⟩ := am_fetch (n := 2) hc ha rfl (by decide); exact so_storeI (Or.inr ⟨hd, hn⟩) h hK
  | lstore_n k => obtain ⟨hd, hn, -⟩ := am_fetch (n := 1) hc ha rfl (by decide); exact so_storeL (Or.inl ⟨k, rfl, hd, hn⟩) h hK
  | lstore k => obtain ⟨hd, hn, -⟩ := am_fetch (n := 2) hc ha rfl (by decide); exact so_storeL (Or.inr ⟨hd, hn⟩) h hK
  | astore_n k => obtain ⟨hd, hn, -⟩ := am_fetch (n := 1) hc ha rfl (by decide); exact so_storeA (Or.inl ⟨k, rfl, hd, hn⟩) h hK
  | astore k => obtain ⟨hd, hn, -⟩ := am_fetch (n := 2) hc ha rfl (by decide); exact so_storeA (Or.inr ⟨hd, hn⟩) h hK
  | iinc k n => obtain ⟨hd, hn, -⟩ := am_fetch (n := 3) hc ha rfl (by decide); exact so_iinc hd hn h hK
  | iconst n => obtain ⟨hd, hn, -⟩ := am_fetch (n := 1) hc ha rfl (by decide); subst hn; exact so_push (fun hx hb _ _ kk => lv_iconst hx hb hd rfl kk) (fun _ => rfl) h hK
  | bipush n => obtain ⟨hd, hn, -⟩ := am_fetch (n := 2) hc ha rfl (by decide); subst hn; exact so_push (fun hx hb _ _ kk => lv_bipush hx hb hd rfl kk) (fun _ => rfl) h hK
  | sipush n => obtain ⟨hd, hn, -⟩ := am_fetch (n := 3) hc ha rfl (by decide); subst hn; exact so_push (fun hx hb _ _ kk => lv_sipush hx hb hd rfl kk) (fun _ => rfl) h hK
  | lconst n => obtain ⟨hd, hn, -⟩ := am_fetch (n := 1) hc ha rfl (by decide); subst hn; exact so_push (fun hx hb _ _ kk => lv_lconst hx hb hd rfl kk) (fun _ => rfl) h hK
  | ldc k =>
    obtain ⟨hd, hn, -⟩ := am_fetch (n := 2) hc ha rfl (by decide); subst hn
    have h : (match am_lk (am_kl r.2.2.2.2.1) k with | some v => ao_push (.int v) (pc + 2) B al st m K | none => False) := h
    split at h
    · rename_i v hl
      exact so_push (fun hx hb ho ht kk => lv_ldc hx hb ho (ht _ (am_kl_ok _ hci _ (am_lk_mem hl))) hd kk) (fun _ => rfl) h hK
    · exact absurd h id
  | ldc_w k =>
    obtain ⟨hd, hn, -⟩ := am_fetch (n := 3) hc ha rfl (by decide); subst hn
    have h : (match am_lk (am_kl r.2.2.2.2.1) k with | some v => ao_push (.int v) (pc + 3) B al st m K | none => False) := h
    split at h
    · rename_i v hl
      exact so_push (fun hx hb ho ht kk => lv_ldcw hx hb ho (ht _ (am_kl_ok _ hci _ (am_lk_mem hl))) hd kk) (fun _ => rfl) h hK
    · exact absurd h id
  | ldc2_w k =>
    obtain ⟨hd, hn, -⟩ := am_fetch (n := 3) hc ha rfl (by decide); subst hn
    have h : (match am_lk (am_jl r.2.2.2.2.1) k with | some v => ao_push (.long v) (pc + 3) B al st m K | none => False) := h
    split at h
    · rename_i v hl
      exact so_push (fun hx hb ho ht kk => lv_ldc2 hx hb ho (ht _ (am_jl_ok _ hci _ (am_lk_mem hl))) hd kk) (fun _ => rfl) h hK
    · exact absurd h id
  | iadd => obtain ⟨hd, hn, -⟩ := am_fetch (n := 1) hc ha rfl (by decide); subst hn; exact so_bin (fun hx hb kk => lv_iadd hx hb hd kk) h hK
  | isub => obtain ⟨hd, hn, -⟩ := am_fetch (n := 1) hc ha rfl (by decide); subst hn; exact so_bin (fun hx hb kk => lv_isub hx hb hd kk) h hK
  | imul => obtain ⟨hd, hn, -⟩ := am_fetch (n := 1) hc ha rfl (by decide); subst hn; exact so_bin (fun hx hb kk => lv_imul hx hb hd kk) h hK
  | iand => obtain ⟨hd, hn, -⟩ := am_fetch (n := 1) hc ha rfl (by decide); subst hn; exact so_bin (fun hx hb kk => lv_iand hx hb hd kk) h hK
  | ior => obtain ⟨hd, hn, -⟩ := am_fetch (n := 1) hc ha rfl (by decide); subst hn; exact so_bin (fun hx hb kk => lv_ior hx hb hd kk) h hK
  | ixor => obtain ⟨hd, hn, -⟩ := am_fetch (n := 1) hc ha rfl (by decide); subst hn; exact so_bin (fun hx hb kk => lv_ixor hx hb hd kk) h hK
  | ishl => obtain ⟨hd, hn, -⟩ := am_fetch (n := 1) hc ha rfl (by decide); subst hn; exact so_bin (fun hx hb kk => lv_ishl hx hb hd kk) h hK
  | ishr => obtain ⟨hd, hn, -⟩ := am_fetch (n := 1) hc ha rfl (by decide); subst hn; exact so_bin (fun hx hb kk => lv_ishr hx hb hd kk) h hK
  | iushr => obtain ⟨hd, hn, -⟩ := am_fetch (n := 1) hc ha rfl (by decide); subst hn; exact so_bin (fun hx hb kk => lv_iushr hx hb hd rfl kk) h hK
  | irem => obtain ⟨hd, hn, -⟩ := am_fetch (n := 1) hc ha rfl (by decide); exact so_irem hd hn h hK
  | i2b => obtain ⟨hd, hn, -⟩ := am_fetch (n := 1) hc ha rfl (by decide); subst hn; exact so_un (fun hx hb kk => lv_i2b hx hb hd rfl kk) h hK
  | i2s => obtain ⟨hd, hn, -⟩ := am_fetch (n := 1) hc ha rfl (by decide); subst hn; exact so_un (fun hx hb kk => lv_i2s hx hb hd rfl kk) h hK
  | ladd => obtain ⟨hd, hn, -⟩ := am_fetch (n := 1) hc ha rfl (by decide); subst hn; exact so_binL (fun hx hb kk => lv_ladd hx hb hd kk) h hK
  | lmul => obtain ⟨hd, hn, -⟩ := am_fetch (n := 1) hc ha rfl (by decide); subst hn; exact so_binL (fun hx hb kk => lv_lmul hx hb hd kk) h hK
  | i2l => obtain ⟨hd, hn, -⟩ := am_fetch (n := 1) hc ha rfl (by decide); exact so_i2l hd hn h hK
  | l2i => obtain ⟨hd, hn, -⟩ := am_fetch (n := 1) hc ha rfl (by decide); exact so_l2i hd hn h hK
  | lcmp => obtain ⟨hd, hn, -⟩ := am_fetch (n := 1) hc ha rfl (by decide); exact so_lcmp hd hn h hK
  | dup => obtain ⟨hd, hn, -⟩ := am_fetch (n := 1) hc ha rfl (by decide); exact so_dup hd hn h hK
  | pop => obtain ⟨hd, hn, -⟩ := am_fetch (n := 1) hc ha rfl (by decide); exact so_pop hd hn h hK
  | dup_x1 => obtain ⟨hd, hn, -⟩ := am_fetch (n := 1) hc ha rfl (by decide); exact so_dupx1 hd hn h hK
  | dup2 => obtain ⟨hd, hn, -⟩ := am_fetch (n := 1) hc ha rfl (by decide); exact so_dup2 hd hn h hK
  | goto off => obtain ⟨hd, hn, ht⟩ := am_fetch (n := 3) hc ha rfl (by decide); exact so_goto hd ht h hK
  | ifCond c off =>
    obtain ⟨hd, hn, ht⟩ := am_fetch (n := 3) hc ha rfl (by decide); subst hn
    cases c with
    | eq => exact so_if1 ht (fun hx hb ht k1 k2 => lv_if_eq hx hb hd ht k1 k2) h hK
    | ne => exact so_if1N ht (fun hx hb ht k1 k2 => lv_if_ne hx hb hd ht k1 k2) h hK
    | lt => exact so_if1 ht (fun hx hb ht k1 k2 => lv_if_lt hx hb hd ht k1 k2) h hK
    | ge => exact so_if1 ht (fun hx hb ht k1 k2 => lv_if_ge hx hb hd ht k1 k2) h hK
    | gt => exact so_if1 ht (fun hx hb ht k1 k2 => lv_if_gt hx hb hd ht k1 k2) h hK
    | le => exact so_if1 ht (fun hx hb ht k1 k2 => lv_if_le hx hb hd ht k1 k2) h hK
  | if_icmp c off =>
    obtain ⟨hd, hn, ht⟩ := am_fetch (n := 3) hc ha rfl (by decide); subst hn
    cases c with
    | eq => exact so_if2 ht (fun hx hb ht k1 k2 => lv_icmp_eq hx hb hd ht k1 k2) h hK
    | ne => exact so_if2N ht (fun hx hb ht k1 k2 => lv_icmp_ne hx hb hd ht k1 k2) h hK
    | lt => exact so_if2 ht (fun hx hb ht k1 k2 => lv_icmp_lt hx hb hd ht k1 k2) h hK
    | ge => exact so_if2 ht (fun hx hb ht k1 k2 => lv_icmp_ge hx hb hd ht k1 k2) h hK
    | gt => exact so_if2 ht (fun hx hb ht k1 k2 => lv_icmp_gt hx hb hd ht k1 k2) h hK
    | le => exact so_if2 ht (fun hx hb ht k1 k2 => lv_icmp_le hx hb hd ht k1 k2) h hK
  | if_acmp c off =>
    obtain ⟨hd, hn, ht⟩ := am_fetch (n := 3) hc ha rfl (by decide)
    cases c with
    | eq => exact so_ifA hd hn ht h hK
    | _ => exact absurd h id
  | tableswitch d lo hi offs =>
    obtain ⟨h1, h2, h3, -⟩ := am_chk_at hc ha
    exact so_tsw h1 h3 h hK
  | getfield k => obtain ⟨hd, hn, -⟩ := am_fetch (n := 3) hc ha rfl (by decide); exact so_getf hci hd hn h hK
  | putfield k => obtain ⟨hd, hn, -⟩ := am_fetch (n := 3) hc ha rfl (by decide); exact so_putf rfl hci hd hn h hK
  | iaload => obtain ⟨hd, hn, -⟩ := am_fetch (n := 1) hc ha rfl (by decide); exact so_iald hd hn h hK
  | baload => obtain ⟨hd, hn, -⟩ := am_fetch (n := 1) hc ha rfl (by decide); exact so_bald hd hn h hK
  | saload => obtain ⟨hd, hn, -⟩ := am_fetch (n := 1) hc ha rfl (by decide); exact so_sald hd hn h hK
  | laload => obtain ⟨hd, hn, -⟩ := am_fetch (n := 1) hc ha rfl (by decide); exact so_lald hd hn h hK
  | aaload => obtain ⟨hd, hn, -⟩ := am_fetch (n := 1) hc ha rfl (by decide); exact so_aald hd hn h hK
  | iastore => obtain ⟨hd, hn, -⟩ := am_fetch (n := 1) hc ha rfl (by decide); exact so_iast hd hn h hK
  | bastore => obtain ⟨hd, hn, -⟩ := am_fetch (n := 1) hc ha rfl (by decide); exact so_bast hd hn h hK
  | sastore => obtain ⟨hd, hn, -⟩ := am_fetch (n := 1) hc ha rfl (by decide); exact so_sast hd hn h hK
  | lastore => obtain ⟨hd, hn, -⟩ := am_fetch (n := 1) hc ha rfl (by decide); exact so_last hd hn h hK
  | aastore => obtain ⟨hd, hn, -⟩ := am_fetch (n := 1) hc ha rfl (by decide); exact so_aast hd hn h hK
  | arraylength => obtain ⟨hd, hn, -⟩ := am_fetch (n := 1) hc ha rfl (by decide); exact so_alen hd hn h hK
  | new k => obtain ⟨hd, hn, -⟩ := am_fetch (n := 3) hc ha rfl (by decide); exact so_new hci hd hn h hK
  | newarray a => obtain ⟨hd, hn, -⟩ := am_fetch (n := 2) hc ha rfl (by decide); exact so_newa hd hn h hK
  | anewarray k => obtain ⟨hd, hn, -⟩ := am_fetch (n := 3) hc ha rfl (by decide); exact so_newq hci hd hn h hK
  | invokevirtual k => obtain ⟨hd, hn, -⟩ := am_fetch (n := 3) hc ha rfl (by decide); exact so_virt hlf hci hd hn h hK
  | invokestatic k => obtain ⟨hd, hn, -⟩ := am_fetch (n := 3) hc ha rfl (by decide); exact so_stat hlf hci hd hn h hK
  | invokespecial k => obtain ⟨hd, hn, -⟩ := am_fetch (n := 3) hc ha rfl (by decide); exact so_spec hlf hci hd hn h hK
  | ireturn => obtain ⟨hd, hn, -⟩ := am_fetch (n := 1) hc ha rfl (by decide); exact so_ireturn hd h
  | lreturn => obtain ⟨hd, hn, -⟩ := am_fetch (n := 1) hc ha rfl (by decide); exact so_lreturn hd h
  | areturn => obtain ⟨hd, hn, -⟩ := am_fetch (n := 1) hc ha rfl (by decide); exact so_areturn hd h
  | return_ => obtain ⟨hd, hn, -⟩ := am_fetch (n := 1) hc ha rfl (by decide); exact so_return hd h
  | _ => exact absurd h id
end VR
theorem am_vc_run {lf : am_LF} (hlf : ∀ P m, lf P m → P m) {r : am_MR} (hc : am_chk r.2.1 r.2.2.2.2.2.2.2 = true) (hci : r.2.2.2.2.1 < 13) {ct : List (Nat × List Bool)} {Q : am_Q} : ∀ (k : Nat) {B : am_Bd} {pc : Nat} {al : am_AL} {st : am_ST} {m : am_Mem}, am_vc lf k ct r B pc al st m Q → am_Run B r pc al st m Q
  | 0, _, _, _, _, _, h => h
  | k + 1, B, pc, al, st, m, h => by
    unfold am_vc at h
    split at h
    · exact absurd h id
    · rename_i i nx ts ha
      refine am_sem_run hlf hc hci ha h ?_
      intro B' pc' al' st' m' h
      split at h
      · exact am_vc_run hlf hc hci k h
      · rename_i bs _
        exact am_Run.mask bs h
