/-! CONTRACTS of ApplyFree$Rewriter: attach, bag, whole -/
section BK
variable {T : Nat → sm_T} {bag : cp_B} {att : cp_A} {t : Nat} {x : cp_X} {σ : cp_S}
theorem cp_sw11 (h : sm_k (T t) = 11) : cp_sw T bag att t x σ = (σ.1.length + 1, (σ.1 ++ [cp_laid (sm_n (T t)), cp_set 2 x.2.1 σ.1.length], σ.2)) := by unfold cp_sw; rw [h]; rfl
theorem cp_sw12 (h : sm_k (T t) = 12) : cp_sw T bag att t x σ = cp_within T bag att true (sm_a (T t)) (sm_b (T t)) x σ := by unfold cp_sw; rw [h]; rfl
theorem cp_sw13 (h : sm_k (T t) = 13) : cp_sw T bag att t x σ = cp_within T bag att false (sm_a (T t)) (sm_b (T t)) x σ := by unfold cp_sw; rw [h]; rfl
theorem cp_sw14 (h : sm_k (T t) = 14) : cp_sw T bag att t x σ = ((bag (sm_a (T t)) x σ).2.1.length, ((bag (sm_a (T t)) x σ).2.1 ++ [cp_pick (bag (sm_a (T t)) x σ).1 (cp_sp x.2.2.1 ++ (List.range (sm_c (T t))).map (fun k => nI (x.2.2.1 + sm_col (sm_n (T t)) k)))], (bag (sm_a (T t)) x σ).2.2 + x.2.2.1 + sm_c (T t))) := by unfold cp_sw; rw [h]; rfl
theorem cp_sw15 (h : sm_k (T t) = 15) : cp_sw T bag att t x σ = cp_pairs T bag (sm_a (T t)) (sm_b (T t)) x σ := by unfold cp_sw; rw [h]; rfl
theorem cp_sw16 (h : sm_k (T t) = 16) : cp_sw T bag att t x σ = cp_apply T bag (sm_o (T t)) (sm_a (T t)) (sm_b (T t)) x σ := by unfold cp_sw; rw [h]; rfl
theorem cp_sw17 (h : sm_k (T t) = 17) : cp_sw T bag att t x σ = ((bag (sm_b (T t)) x (bag (sm_a (T t)) x σ).2).2.1.length, ((bag (sm_b (T t)) x (bag (sm_a (T t)) x σ).2).2.1 ++ [cp_set (7 + sm_o (T t)) (bag (sm_a (T t)) x σ).1 (bag (sm_b (T t)) x (bag (sm_a (T t)) x σ).2).1], (bag (sm_b (T t)) x (bag (sm_a (T t)) x σ).2).2.2)) := by unfold cp_sw; rw [h]; rfl
theorem cp_sw18 (h : sm_k (T t) = 18) : cp_sw T bag att t x σ = ((bag (sm_a (T t)) x σ).2.1.length, ((bag (sm_a (T t)) x σ).2.1 ++ [cp_uniq (bag (sm_a (T t)) x σ).1], (bag (sm_a (T t)) x σ).2.2)) := by unfold cp_sw; rw [h]; rfl
theorem cp_sw19 (h : sm_k (T t) = 19) : cp_sw T bag att t x σ = ((bag (sm_a (T t)) x σ).2.1.length, ((bag (sm_a (T t)) x σ).2.1 ++ [cp_top (bag (sm_a (T t)) x σ).1 x.2.2.1 (sm_n (T t))], (bag (sm_a (T t)) x σ).2.2)) := by unfold cp_sw; rw [h]; rfl
theorem cp_sw20 (h : sm_k (T t) = 20) : cp_sw T bag att t x σ = cp_groups T bag t x σ := by unfold cp_sw; rw [h]; rfl
end BK
section RZ
variable {z : wd_Z} {L : wd_L} {T : Nat → sm_T} {N : Nat} {tr : Nat → Nat} {tc : Nat → Nat} {nt : Nat}
theorem rx_attach_s {n : Nat} (wf : sm_wf T tc nt N) (HB : rx_BagC T N tr z L n) (HA : rx_AttC T N tr z L n) : rx_AttC T N tr z L (n + 1) := by
  intro t ht htN hk d M σ o fs a e w pl K hd hP hE ho hz hw hc hu hK
  have hN := hP.1.2.1
  obtain ⟨hsc, hopA, ha28⟩ := rx_EA_sc hE (by omega)
  have hwk := (wf t htN).1
  obtain ⟨d, rfl, hd'⟩ := ak_deep (k := 8 * t + 7) hd
  obtain ⟨m4, m5, m6, m7, -⟩ := hP.1.2.2 t htN
  have hin : vp_in (nI t) 120 := vp_in_nI (by omega) (by omega)
  have hzp := sm_zc_pos (tr := tr) wf htN
  have hc : (cp_att0 T (cp T n).1 (cp T n).2 t e w pl σ).2.1.length ≤ 32768 := hc
  have hu : (cp_att0 T (cp T n).1 (cp T n).2 t e w pl σ).2.2 ≤ 524288 := hu
  have hK : ∀ M', rx_Pa M σ o fs a (cp_att0 T (cp T n).1 (cp T n).2 t e w pl σ) M' → K z M' L := hK
  have fin : ∀ {M' : wd_M}, rx_Pa M σ o fs a (cp_att0 T (cp T n).1 (cp T n).2 t e w pl σ) M' → wRun (d + 1, 0, 0) mX3_attach 140 [none, none, none, none, none] [] z M' L (wQv K) := fun {M'} g => fX3_attach_140 (wQv_i (hK M' g))
  have o1 : ∀ {x y z : Nat}, z = x ||| y → ∀ k, x.testBit k = true → z.testBit k = true := fun e k h => by rw [e, Nat.testBit_or, h, Bool.true_or]
  have o2 : ∀ {x y z : Nat}, z = x ||| y → ∀ k, y.testBit k = true → z.testBit k = true := fun e k h => by rw [e, Nat.testBit_or, h, Bool.or_true]
  have o3 : ∀ {x z : Nat}, z = x → ∀ k, x.testBit k = true → z.testBit k = true := fun e k h => by rw [e]; exact h
  have deflt : (sm_k (T t) = 2 ∨ sm_k (T t) = 3 ∨ sm_k (T t) = 5 ∨ sm_k (T t) = 6 ∨ sm_k (T t) = 7) → wRun (d + 1, 0, 0) mX3_attach 122 [some (.ref 23), none, some (.ref a), some (.int (M 6 t)), some (.int (M 7 t))] [] z M L (wQv K) := fun q => by
    rcases sm_cases hwk hk with p | ⟨p, -⟩ | ⟨p, -⟩ | ⟨-, qa, qa2, qa3, q2⟩
    · omega
    · omega
    · omega
    refine fX3_attach_122 ?_
    rw [m6, m7, qa]
    rcases q2 with ⟨e1, el⟩ | ⟨e1, eb, eb2, el⟩
    · have z1 := sm_zc1 (tr := tr) wf htN (by omega) e1 (by omega) (by omega) (by rcases q with q | q | q | q | q <;> (rw [q]; rfl)) (by omega)
      rw [cp_att_N q e1] at hc hu
      rw [e1]
      refine HA (sm_a (T t)) (by omega) (by omega) qa3 d M σ o fs a e w pl _ (by omega) hP (rx_EA_sub hE (o3 el)) (by omega) (by omega) (by omega) hc hu fun M1 Q1 => ⟨fun _ => fin ?_, fun q => absurd ak_m1 q⟩
      rw [cp_att_N q e1]; exact Q1
    · have z1 := sm_zc2 (tr := tr) wf htN (by omega) e1 (by omega) (by omega) (by rcases q with q | q | q | q | q <;> (rw [q]; rfl)) (by omega)
      have W := cp_att_w (tr := tr) wf n (sm_a (T t)) (by omega) (by omega) qa3 (by omega) e w pl σ
      rw [cp_att_B q e1] at hc hu
      dsimp only at hc hu
      have mB := cp_le_len ((cp_mono T n).2 (sm_b (T t)) ((cp T n).2 (sm_a (T t)) e w pl σ).1.1 ((cp T n).2 (sm_a (T t)) e w pl σ).1.2.1 pl ((cp T n).2 (sm_a (T t)) e w pl σ).2)
      have mA := cp_le_len ((cp_mono T n).2 (sm_a (T t)) e w pl σ)
      rw [e1]
      refine HA (sm_a (T t)) (by omega) (by omega) qa3 d M σ o fs a e w pl _ (by omega) hP (rx_EA_sub hE (o1 el)) (by omega) (by omega) (by omega) (by omega) (by omega) fun M1 Q1 => ⟨fun q => absurd q (nI_pos (by omega)), fun _ => ?_⟩
      have hP1 := rx_Pa_Pre hP Q1 ha28
      have hE1 := rx_Pa_EA hE Q1
      refine HA (sm_b (T t)) (by omega) (by omega) eb2 d M1 _ o _ a _ _ pl _ (by omega) hP1 (rx_EA_sub hE1 (o2 el)) (by omega) (by rw [List.length_append, W.2.2.1]; omega) (by omega) hc hu fun M2 Q2 => fin ?_
      rw [cp_att_B q e1]
      refine ⟨by rw [← List.append_assoc]; exact Q2.1, Q2.2.1, Q2.2.2.1, rx_pl_trans Q1.2.2.2.1 Q2.2.2.2.1 mA.2, rx_F_trans Q1.2.2.2.2 Q2.2.2.2.2⟩
  have leaf : (sm_k (T t) = 0 ∨ sm_k (T t) = 1) → wRun (d + 1, 0, 0) mX3_attach 88 [none, none, none, none, none] [] z M L (wQv K) := fun q => by
    refine fX3_attach_88 (fin ?_)
    rw [cp_att_0 q]
    exact ⟨by rw [List.append_nil]; exact hP.2.1, hE.2.1, hE.2.2.1, rx_pl_refl, rx_F_refl⟩
  have qnt : (sm_k (T t) = 9 ∨ sm_k (T t) = 10) → wRun (d + 1, 0, 0) mX3_attach 110 [some (.ref 23), some (.int (nI t)), some (.ref a), some (.int (M 6 t)), some (.int (M 7 t))] [] z M L (wQv K) := fun q => by
    rcases sm_cases hwk hk with p | ⟨p, -⟩ | ⟨-, qa, qb, qo, qw, ql⟩ | ⟨p, -⟩
    · omega
    · omega
    · have z1 := sm_zc2 (tr := tr) wf htN (by omega) qb.1 (by omega) (by omega) (by rcases q with q | q <;> (rw [q]; rfl)) (by omega)
      have ta := qa.2.1
      have tb := qb.2.1
      have zb := sm_zc_pos (tr := tr) wf (t := sm_b (T t)) (by omega)
      rw [cp_att_9 q] at hc hu
      refine fX3_attach_110 ?_
      rw [m6, m7, qa.1, qb.1]
      refine rx_quant (tr := tr) wf HB HA htN q qo (by omega) (by omega) (sm_srt_le qa.2.2 (by omega)) (by omega) (by omega) (sm_srt_ge qb.2.2) (by omega) hP (by rw [← ql]; exact hE) (by omega) (by omega) (by omega) (wf _ (by omega)).2.2.1 (by omega) hc hu fun M1 Q1 => fin ?_
      rw [cp_att_9 q]; exact Q1
    · omega
  refine fX3_attach_e ?_
  rw [nI_clamp (by omega), m4, nI_toInt (show sm_k (T t) < 2 ^ 31 by omega)]
  refine ⟨hin, hin, hin, fun q => by omega, fun q => leaf (by omega), fun q => leaf (by omega), fun q => deflt (by omega), fun q => deflt (by omega), fun q => ?_, fun q => deflt (by omega), fun q => deflt (by omega), fun q => deflt (by omega), fun q => ?_, fun q => qnt (by omega), fun q => qnt (by omega), trivial⟩
  · have q : sm_k (T t) = 4 := by omega
    have p := sm_wf4 hwk q
    have z1 := sm_zc1 (tr := tr) wf htN (by omega) p.2.1 (by omega) (by omega) (by rw [q]; rfl) (by omega)
    have ta := p.1.2.1
    have hcl : sm_c (T t) < 8 := Nat.lt_of_lt_of_le p.2.2.2.1 (wf _ (by omega)).2.1
    rw [cp_att_4 q] at hc hu
    rw [m6, p.1.1]
    refine rx_folded (tr := tr) HB htN (by omega) (by omega) (sm_srt_ge p.1.2.2) (by omega) hP (by have := p.2.2.2.2; unfold sm_lA at this; rw [← this]; exact hE) (by omega) (by omega) (by omega) (wf _ (by omega)).2.2.1 p.2.2.1 (by omega) hc hu fun M1 Q1 => fin ?_
    rw [cp_att_4 q]; exact Q1
  · have q : sm_k (T t) = 8 := by omega
    have p := sm_wf8 hwk q
    have z1 := sm_zc1 (tr := tr) wf htN (by omega) p.2.1 (by omega) (by omega) (by rw [q]; rfl) (by omega)
    have ta := p.1.2.1
    rw [cp_att_8 q] at hc hu
    rw [m6, p.1.1]
    refine rx_has (tr := tr) HB htN (by omega) (by omega) (sm_srt_ge p.1.2.2) (by omega) hP (by have := p.2.2; unfold sm_lA at this; rw [← this]; exact hE) (by omega) (by omega) (by omega) (wf _ (by omega)).2.2.1 hc hu fun M1 Q1 => fin ?_
    rw [cp_att_8 q]; exact Q1
/-- the switch of bag -/
theorem rx_bag_62 {n t d a : Nat} {M : wd_M} {σ : cp_S} {o : Nat} {fs : List Nat} {x : cp_X} {K : Int32 → wd_Z → wd_M → wd_L → Prop} (wf : sm_wf T tc nt N) (HB : rx_BagC T N tr z L n) (HA : rx_AttC T N tr z L n) (ht : t < n + 1) (htN : t < N) (hk : 11 ≤ sm_k (T t)) (hd : 8 * t + 6 ≤ d) (hP : rx_Pre T N M σ o fs) (hX : rx_XA M a (sm_l (T t)) x o) (ho : o + 2 * t + 2 ≤ 300) (hz : fs.length + sm_zc T tr t ≤ 3000)
    (hc : (cp_sw T (cp T n).1 (cp T n).2 t x σ).2.1.length ≤ 32768) (hu : (cp_sw T (cp T n).1 (cp T n).2 t x σ).2.2 ≤ 524288) (hK : ∀ M', rx_Po M σ o fs (cp_sw T (cp T n).1 (cp T n).2 t x σ).2 M' → K (nI (cp_sw T (cp T n).1 (cp T n).2 t x σ).1) z M' L) :
    wRun (d + 1, 0, 0) mX3_bag 62 [some (.ref 23), some (.int (nI t)), some (.ref a), some (.int (M 6 t)), some (.int (M 7 t)), none, none] [] z M L (wQi K) := by
  have hN := hP.1.2.1
  have hwk := (wf t htN).1
  have hk20 := sm_k20 hwk
  have hsc := rx_op_sc hX.1 (by omega)
  obtain ⟨m4, m5, m6, m7, m8, m9, -, -⟩ := hP.1.2.2 t htN
  have hin : vp_in (nI t) 120 := vp_in_nI (by omega) (by omega)
  have o1 : ∀ {x y z : Nat}, z = x ||| y → ∀ k, x.testBit k = true → z.testBit k = true := fun e k h => by rw [e, Nat.testBit_or, h, Bool.true_or]
  have o2 : ∀ {x y z : Nat}, z = x ||| y → ∀ k, y.testBit k = true → z.testBit k = true := fun e k h => by rw [e, Nat.testBit_or, h, Bool.or_true]
  have o3 : ∀ {x z : Nat}, z = x → ∀ k, x.testBit k = true → z.testBit k = true := fun e k h => by rw [e]; exact h
  have zcI : ∀ b : Nat, sm_zc T tr b ≤ (sm_zs T tr (sm_a (T t)) + 1) * sm_zc T tr b := fun b => Nat.le_mul_of_pos_left _ (by omega)
  -- the first part
  have partA : ∀ {K1 : Int32 → wd_Z → wd_M → wd_L → Prop}, sm_pa T t 2 → (∀ k, (sm_lA T t).testBit k = true → (sm_l (T t)).testBit k = true) → fs.length + sm_zc T tr (sm_a (T t)) ≤ 3000 → ((cp T n).1 (sm_a (T t)) x σ).2.1.length ≤ 32768 → ((cp T n).1 (sm_a (T t)) x σ).2.2 ≤ 524288 → (∀ M', rx_Po M σ o fs ((cp T n).1 (sm_a (T t)) x σ).2 M' → K1 (nI ((cp T n).1 (sm_a (T t)) x σ).1) z M' L) → wRunI (d, 0, 0) mX3_bag [.ref 23, .int (M 6 t), .ref a] z M L K1 := fun {K1} pa hl hz' h1 h2 h3 => by
    rw [m6, pa.1]
    have ta := pa.2.1
    exact HB _ (by omega) (by omega) (sm_srt_ge pa.2.2) d M σ o fs a x _ (by omega) hP (rx_XA_sub hX hl) (by omega) hz' h1 h2 h3
  have wtn : ∀ {fl : Bool}, sm_k (T t) = (if fl = true then 12 else 13) → sm_pa T t 2 → (∃ s, s ≤ 1 ∧ sm_pb T t s) → sm_l (T t) = sm_lA T t ||| sm_lB T t >>> 8 → cp_sw T (cp T n).1 (cp T n).2 t x σ = cp_within T (cp T n).1 (cp T n).2 fl (sm_a (T t)) (sm_b (T t)) x σ → wRun (d + 1, 0, 0) mX3_bag 148 [some (.ref 23), some (.int (nI t)), some (.ref a), some (.int (M 6 t)), some (.int (M 7 t)), none, none] [] z M L (wQi K) := fun {fl} q pa ⟨s, hs, pb⟩ pl ew => by
    refine fX3_bag_148 ?_
    rw [m6, m7, pa.1, pb.1]
    rw [ew] at hc hu hK
    have ta := pa.2.1
    have tb := pb.2.1
    have z1 := sm_zcI (tr := tr) wf htN (by omega) pb.1 (by omega) (by cases fl <;> simp at q <;> omega) (by cases fl <;> (rw [q]; rfl))
    have z2 := zcI (sm_b (T t))
    exact rx_within (tr := tr) wf HB HA htN q (by omega) (by omega) (by omega) (by omega) (sm_srt_ge pa.2.2) (sm_srt_le pb.2.2 hs) (by omega) hP (rx_XA_sub hX (o3 pl)) (by omega) (by omega) hc hu fun M1 Q1 => wQi_i (hK M1 Q1)
  refine fX3_bag_62 ?_
  rw [nI_clamp (by omega), m4, nI_toInt (show sm_k (T t) < 2 ^ 31 by omega)]
  refine ⟨hin, fun q => ?_, fun q => ?_, fun q => ?_, fun q => ?_, fun q => ?_, fun q => ?_, fun q => ?_, fun q => ?_, fun q => ?_, fun q => ?_, trivial⟩
  · have q : sm_k (T t) = 20 := by omega
    have p := sm_wf20 hwk q
    have z1 := sm_zc1 (tr := tr) wf htN (by omega) p.2.1 (by omega) (by omega) (by rw [q]; rfl) (by omega)
    have ta := p.1.2.1
    have hcl : sm_c (T t) < 8 := Nat.lt_of_lt_of_le p.2.2.2.1 (wf _ (by omega)).2.1
    rw [cp_sw20 q] at hc hu hK
    unfold cp_groups at hc hu hK
    dsimp only at hc hu hK
    generalize hr : (cp T n).1 (sm_a (T t)) x σ = r at hc hu hK
    generalize hf : cp_fold r.1 (cp_sp x.2.2.1 ++ (sm_ks (sm_n (T t))).map (fun c => nI (x.2.2.1 + c))) (sm_o (T t)) (x.2.2.1 + sm_c (T t)) (r.2.1, r.2.2 + x.2.2.1 + (sm_ks (sm_n (T t))).length) = f at hc hu hK
    have mA : cp_le σ r.2 := by rw [← hr]; exact (cp_mono T n).1 _ _ _
    have mF : cp_le (r.2.1, r.2.2 + x.2.2.1 + (sm_ks (sm_n (T t))).length) f.2 := by rw [← hf]; exact cp_le_fold
    have lA := cp_le_len mA
    have lF := cp_le_len mF
    dsimp only at lF
    have bnd : f.2.1.length + (if sm_ks (sm_n (T t)) = [] then 1 else 0) ≤ 32768 ∧ f.2.2 + (if sm_ks (sm_n (T t)) = [] then x.2.2.1 else 0) ≤ 524288 := by
      by_cases e0 : sm_ks (sm_n (T t)) = []
      · rw [if_pos e0] at hc hu
        simp only [List.length_append, List.length_singleton] at hc
        rw [if_pos e0, if_pos e0]
        exact ⟨hc, hu⟩
      · rw [if_neg e0] at hc hu
        rw [if_neg e0, if_neg e0]
        exact ⟨hc, hu⟩
    refine partA p.1 (o3 p.2.2.2.2.1) (by omega) (by rw [hr]; omega) (by rw [hr]; omega) fun M1 P1 => ?_
    rw [hr] at P1 ⊢
    refine rx_groups (by omega) htN (rx_Pre_of hP P1) (rx_XA_F hX P1.2.2 (by omega)) (by omega) p.2.2.1 (by omega) f hf.symm bnd.1 bnd.2 fun M2 P2 => wQi_i ?_
    have P3 := rx_Po_trans P1 P2 lA.2
    by_cases e0 : sm_ks (sm_n (T t)) = []
    · simp only [if_pos e0] at hK P3 ⊢
      exact hK M2 P3
    · simp only [if_neg e0] at hK P3 ⊢
      exact hK M2 P3
  · have q : sm_k (T t) = 11 := by omega
    have p := sm_wf11 hwk q
    rw [cp_sw11 q] at hc hu hK
    simp only [List.length_append, List.length_cons, List.length_nil] at hc
    refine rx_gO hsc ?_
    rw [m8, hX.2.2.1]
    refine ⟨hin, rx_laid (by omega) hP.2.1.1 (by omega) fun M1 a1 a2 a3 => ?_⟩
    refine rx_cross (by omega) a1 (by simp only [List.length_append, List.length_singleton]; omega) fun M2 b1 b2 b3 => ?_
    have P1 := rx_Po_of hP.2.1 a1 a2 a3
    have b1 : rx_S M2 (σ.1 ++ [cp_laid (sm_n (T t))] ++ [cp_set 2 x.2.1 σ.1.length], σ.2) := b1
    have P2 := rx_Po_of P1.1 b1 b2 b3
    have e1 : (σ.1 ++ [cp_laid (sm_n (T t))]).length = σ.1.length + 1 := by simp
    show wQi K (some (.int (nI (σ.1 ++ [cp_laid (sm_n (T t))]).length))) _
    rw [e1]
    refine wQi_i (hK M2 ?_)
    have := rx_Po_trans P1 P2 (Nat.le_refl _)
    simpa [List.append_assoc] using this
  · have q : sm_k (T t) = 12 := by omega
    have p := sm_wf12 hwk q
    exact wtn (fl := true) q p.1 ⟨1, by omega, p.2.1⟩ p.2.2.2.2 (cp_sw12 q)
  · have q : sm_k (T t) = 13 := by omega
    have p := sm_wf13 hwk q
    exact wtn (fl := false) q p.1 ⟨0, by omega, p.2.1⟩ p.2.2.2.2 (cp_sw13 q)
  · have q : sm_k (T t) = 14 := by omega
    have p := sm_wf14 hwk q
    have z1 := sm_zc1 (tr := tr) wf htN (by omega) p.2.1 (by omega) (by omega) (by rw [q]; rfl) (by omega)
    have hw8 := (wf t htN).2.1
    rw [p.2.2.1] at hw8
    rw [cp_sw14 q] at hc hu hK
    simp only [List.length_append, List.length_singleton] at hc
    dsimp only at hu hK
    have lA := cp_le_len ((cp_mono T n).1 (sm_a (T t)) x σ)
    refine partA p.1 (o3 p.2.2.2.2) (by omega) (by omega) (by omega) fun M1 P1 => ?_
    exact rx_only (by omega) htN (rx_Pre_of hP P1) (rx_XA_F hX P1.2.2 (by omega)) (by omega) (by omega) (by omega) hu fun M2 P2 => wQi_i (hK M2 (rx_Po_trans P1 P2 lA.2))
  · have q : sm_k (T t) = 15 := by omega
    have p := sm_wf15 hwk q
    have z1 := sm_zcP (tr := tr) wf htN (by omega) p.2.1.1 q
    have ta := p.1.2.1
    have tb := p.2.1.2.1
    rw [cp_sw15 q] at hc hu hK
    rw [m6, m7, p.1.1, p.2.1.1]
    exact rx_pairs (tr := tr) HB (by omega) (by omega) (by omega) (by omega) (sm_srt_ge p.1.2.2) (sm_srt_ge p.2.1.2.2) (by omega) hP (rx_XA_sub hX (o3 p.2.2.2)) (by omega) (by omega) (wf _ (by omega)).2.2.1 hc hu fun M1 Q1 => wQi_i (hK M1 Q1)
  · have q : sm_k (T t) = 16 := by omega
    have p := sm_wf16 hwk q
    have z1 := sm_zcI (tr := tr) wf htN (by omega) p.2.1.1 (by omega) (by omega) (by rw [q]; rfl)
    have z2 := zcI (sm_b (T t))
    have ta := p.1.2.1
    have tb := p.2.1.2.1
    rw [cp_sw16 q] at hc hu hK
    rw [m5, m6, m7, p.1.1, p.2.1.1]
    exact ⟨hin, rx_apply (tr := tr) HB (by omega) (by omega) (by omega) (by omega) (sm_srt_ge p.1.2.2) (sm_srt_ge p.2.1.2.2) (by omega) hP (rx_XA_sub hX (o3 p.2.2.2.2.2)) (by omega) (by omega) (wf _ (by omega)).2.2.1 hc hu fun M1 Q1 => wQi_i (hK M1 Q1)⟩
  · have q : sm_k (T t) = 17 := by omega
    have p := sm_wf17 hwk q
    have z1 := sm_zc2 (tr := tr) wf htN (by omega) p.2.1.1 (by omega) (by omega) (by rw [q]; rfl) (by omega)
    have ta := p.1.2.1
    have tb := p.2.1.2.1
    rw [cp_sw17 q] at hc hu hK
    simp only [List.length_append, List.length_singleton] at hc
    dsimp only at hu hK
    have lA := cp_le_len ((cp_mono T n).1 (sm_a (T t)) x σ)
    have lB := cp_le_len ((cp_mono T n).1 (sm_b (T t)) x ((cp T n).1 (sm_a (T t)) x σ).2)
    refine partA p.1 (o1 p.2.2.2.2.2) (by omega) (by omega) (by omega) fun M1 P1 => ?_
    have hP1 := rx_Pre_of hP P1
    have hX1 := rx_XA_F hX P1.2.2 (by omega)
    rw [m7, p.2.1.1]
    refine HB _ (by omega) (by omega) (sm_srt_ge p.2.1.2.2) d M1 _ o fs a x _ (by omega) hP1 (rx_XA_sub hX1 (o2 p.2.2.2.2.2)) (by omega) (by omega) (by omega) hu fun M2 P2 => ?_
    have hP2 := rx_Pre_of hP1 P2
    obtain ⟨-, m5', -⟩ := hP2.1.2.2 t htN
    rw [m5', ak_n7, nI_add]
    have hop := p.2.2.1
    refine ⟨hin, rx_sets (by omega) P2.1.1 (by omega) (by omega) fun M3 c1 c2 c3 => wQi_i (hK M3 (rx_Po_trans P1 (rx_Po_trans P2 (rx_Po_of P2.1 c1 c2 c3) lB.2) lA.2))⟩
  · have q : sm_k (T t) = 18 := by omega
    have p := sm_wf18 hwk q
    have z1 := sm_zc1 (tr := tr) wf htN (by omega) p.2.1 (by omega) (by omega) (by rw [q]; rfl) (by omega)
    rw [cp_sw18 q] at hc hu hK
    simp only [List.length_append, List.length_singleton] at hc
    dsimp only at hu hK
    have lA := cp_le_len ((cp_mono T n).1 (sm_a (T t)) x σ)
    refine partA p.1 (o3 p.2.2.2) (by omega) (by omega) (by omega) fun M1 P1 => ?_
    exact rx_uniq (by omega) P1.1.1 (by omega) fun M2 c1 c2 c3 => wQi_i (hK M2 (rx_Po_trans P1 (rx_Po_of P1.1 c1 c2 c3) lA.2))
  · have q : sm_k (T t) = 19 := by omega
    have p := sm_wf19 hwk q
    have z1 := sm_zc1 (tr := tr) wf htN (by omega) p.2.1 (by omega) (by omega) (by rw [q]; rfl) (by omega)
    rw [cp_sw19 q] at hc hu hK
    simp only [List.length_append, List.length_singleton] at hc
    dsimp only at hu hK
    have lA := cp_le_len ((cp_mono T n).1 (sm_a (T t)) x σ)
    refine partA p.1 (o3 p.2.2.2.1) (by omega) (by omega) (by omega) fun M1 P1 => rx_gO hsc ?_
    have hP1 := rx_Pre_of hP P1
    have hX1 := rx_XA_F hX P1.2.2 (by omega)
    obtain ⟨-, -, -, -, m8', -⟩ := hP1.1.2.2 t htN
    rw [m8', hX1.2.2.2.1]
    exact ⟨hin, rx_top (by omega) P1.1.1 (by omega) fun M2 c1 c2 c3 => wQi_i (hK M2 (rx_Po_trans P1 (rx_Po_of P1.1 c1 c2 c3) lA.2))⟩
theorem rx_bag_s {n : Nat} (wf : sm_wf T tc nt N) (HB : rx_BagC T N tr z L n) (HA : rx_AttC T N tr z L n) : rx_BagC T N tr z L (n + 1) := by
  intro t ht htN hk d M σ o fs a x K hd hP hX ho hz hc hu hK
  have hN := hP.1.2.1
  have hl := (wf t htN).2.2.1
  have hsc := rx_op_sc hX.1 (by omega)
  obtain ⟨d, rfl, hd'⟩ := ak_deep (k := 8 * t + 7) hd
  obtain ⟨m4, m5, m6, m7, m8, m9, m10, m11⟩ := hP.1.2.2 t htN
  have hin : vp_in (nI t) 120 := vp_in_nI (by omega) (by omega)
  have hc : (cp_bag0 T (cp T n).1 (cp T n).2 t x σ).2.1.length ≤ 32768 := hc
  have hu : (cp_bag0 T (cp T n).1 (cp T n).2 t x σ).2.2 ≤ 524288 := hu
  have hK : ∀ M', rx_Po M σ o fs (cp_bag0 T (cp T n).1 (cp T n).2 t x σ).2 M' → K (nI (cp_bag0 T (cp T n).1 (cp T n).2 t x σ).1) z M' L := hK
  unfold cp_bag0 at hc hu hK
  refine fX3_bag_e ?_
  rw [nI_clamp (by omega)]
  refine ⟨hin, hin, fun q => ?_, fun q => ?_⟩
  · have hx : ¬ (x.1 = false ∧ sm_l (T t) = 0) := fun h => by rw [hX.2.1.mpr q] at h; cases h.1
    rw [if_neg hx] at hc hu
    simp only [if_neg hx] at hK
    exact rx_bag_62 wf HB HA ht htN hk (by omega) hP hX ho hz hc hu hK
  · have hx1 : x.1 = false := by
      cases e : x.1 with
      | false => rfl
      | true => exact absurd (hX.2.1.mp e) q
    rw [m11]
    refine ⟨hin, fun q2 => ?_, fun q2 => ?_⟩
    · have q2 : sm_l (T t) = 0 := by
        have e := congrArg (fun v : Int32 => v.toBitVec.toNat) q2
        have e : (nI (sm_l (T t))).toBitVec.toNat = (0 : Int32).toBitVec.toNat := e
        rw [pk_tn hl] at e
        exact e
      rw [if_pos ⟨hx1, q2⟩] at hc hu
      simp only [if_pos (show x.1 = false ∧ sm_l (T t) = 0 from ⟨hx1, q2⟩)] at hK
      simp only [List.length_append, List.length_singleton] at hc
      dsimp only at hu
      rw [hX.2.2.1]
      refine rx_gO hsc ?_
      obtain ⟨d2, hd2, hd3⟩ := ak_deep (k := 8 * t + 6) hd'
      rw [hd2]
      refine fX3_bag_e ?_
      rw [nI_clamp (by omega)]
      refine ⟨hin, hin, fun _ => ?_, fun q => absurd rfl q⟩
      refine rx_bag_62 (x := cp_U) wf HB HA ht htN hk (by omega) hP (by rw [q2]; exact rx_XA_U hP) ho hz (by omega) hu fun M1 P1 => ?_
      have lA := cp_le_len (cp_le_sw (T := T) (cp_mono T n).1 (cp_mono T n).2 t cp_U σ)
      exact rx_cross (by omega) P1.1.1 (by omega) fun M2 c1 c2 c3 => wQi_i (hK M2 (rx_Po_trans P1 (rx_Po_of P1.1 c1 c2 c3) lA.2))
    · have q2 : ¬ (x.1 = false ∧ sm_l (T t) = 0) := fun h => q2 (by rw [h.2]; rfl)
      rw [if_neg q2] at hc hu
      simp only [if_neg q2] at hK
      exact rx_bag_62 wf HB HA ht htN hk (by omega) hP hX ho hz hc hu hK
theorem rx_all (wf : sm_wf T tc nt N) : ∀ n, rx_BagC T N tr z L n ∧ rx_AttC T N tr z L n
  | 0 => ⟨fun t h => by omega, fun t h => by omega⟩
  | n + 1 => ⟨rx_bag_s wf (rx_all wf n).1 (rx_all wf n).2, rx_attach_s wf (rx_all wf n).1 (rx_all wf n).2⟩
/-- the steps of a closed bag -/
theorem rx_whole {t d : Nat} {M : wd_M} {K : Int32 → wd_Z → wd_M → wd_L → Prop} (wf : sm_wf T tc nt N) (hT : tx_T M T N) (htN : t < N) (hk : 11 ≤ sm_k (T t)) (hl : sm_l (T t) = 0) (hd : 1000 ≤ d) (hz : sm_zc T tr t ≤ 3000) (hc : (cp_whole T t).2.1.length ≤ 32768) (hu : (cp_whole T t).2.2 ≤ 524288)
    (hK : ∀ M', rx_S M' (cp_whole T t).2 → (∀ c, c < 14 ∨ 627 < c → M' c = M c) → K (nI (cp_whole T t).1) z M' L) : wRunI (d, 0, 0) mX3_whole [.ref 23, .int (nI t)] z M L K := by
  obtain ⟨d, rfl, hd'⟩ := ak_deep (k := 999) hd
  have hN := hT.2.1
  refine fX3_whole_e ?_
  refine rx_clear fun M1 a1 a2 => ?_
  refine rx_unit (by omega) (σ := ([], 0)) (rx_S_fr a1 fun c h1 h2 => by rw [ak_up_cell (by omega), ak_up_cell (by omega), ak_up_cell (by omega)]) (by show 0 < _; omega) fun M2 b1 b2 b3 => ?_
  show wRunI (d, 0, 0) mX3_bag [.ref 23, .int (nI t), .ref 24] z (am_up2 M2 24 0 (nI 0)) L (fun v z' M' L' => wQi K (some (.int v)) (wd z' M' L'))
  generalize hM3 : am_up2 M2 24 0 (nI 0) = M3
  have F3 : ∀ c, c ≠ 24 → M3 c = M2 c := fun c h => by rw [← hM3, ak_up_cell h]
  have hP : rx_Pre T N M3 ([cp_unit], 0) 0 [] := by
    refine ⟨tx_T_fr hT fun c h1 h2 => ?_, ⟨?_, ?_, ?_, fun i c hi => by simp at hi⟩, ?_, ?_⟩
    · rw [F3 c (by omega), b3 c (by omega), ak_up_cell (by omega), ak_up_cell (by omega), ak_up_cell (by omega), a2 c (by omega)]
    · exact rx_S_fr b1 fun c h1 h2 => F3 c (by omega)
    · rw [F3 23 (by omega), b3 23 (by omega), ak_up_cell (by omega), ak_up_ne (by omega), ak_up_same]; rfl
    · rw [F3 23 (by omega), b3 23 (by omega), ak_up_cell (by omega), ak_up_same]; rfl
    · rw [← hM3, ak_up_same]
    · rw [← hM3, ak_up_ne (by omega), b3 24 (by omega), ak_up_same]; rfl
  refine (rx_all (tr := tr) (z := z) (L := L) wf (t + 1)).1 t (by omega) htN hk d M3 ([cp_unit], 0) 0 [] 24 cp_U (fun v z' M' L' => wQi K (some (.int v)) (wd z' M' L')) (by omega) hP (by rw [hl]; exact rx_XA_U hP) (by omega) (by show 0 + _ ≤ _; omega) hc hu fun M4 P4 => wQi_i (hK M4 P4.1.1 fun c h => ?_)
  rw [P4.2.2 c (by omega) (by omega), F3 c (by omega), b3 c (by omega), ak_up_cell (by omega), ak_up_cell (by omega), ak_up_cell (by omega), a2 c (by omega)]
end RZ
