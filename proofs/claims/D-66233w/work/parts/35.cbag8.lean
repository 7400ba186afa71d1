/-! CONTRACTS of ApplyFree$Rewriter: within, attach, bag: the recursion -/
section RZ
variable {d : Nat} {z : wd_Z} {L : wd_L} {T : Nat → sm_T} {N : Nat} {tr : Nat → Nat} {M : wd_M} {σ : cp_S} {o : Nat} {fs : List Nat} {tc : Nat → Nat} {nt : Nat}
theorem rx_within {n t a b s : Nat} {fl : Bool} {x : cp_X} {K : Int32 → wd_Z → wd_M → wd_L → Prop} (wf : sm_wf T tc nt N) (HB : rx_BagC T N tr z L n) (HA : rx_AttC T N tr z L n) (ht : t < N) (hfl : sm_k (T t) = if fl then 12 else 13) (ha : a < n) (hb : b < n) (haN : a < N) (hbN : b < N) (hak : 11 ≤ sm_k (T a)) (hbk : sm_k (T b) ≤ 10) (hd : 8 * a + 9 ≤ d ∧ 8 * b + 9 ≤ d) (hP : rx_Pre T N M σ o fs)
    (hX : rx_XA M s (sm_l (T a) ||| sm_l (T b) >>> 8) x o) (ho : o + 2 * a + 2 ≤ 300 ∧ o + 2 * b + 2 ≤ 300) (hz : fs.length + sm_zc T tr a ≤ 3000 ∧ fs.length + sm_zc T tr b ≤ 3000)
    (hc : (cp_within T (cp T n).1 (cp T n).2 fl a b x σ).2.1.length ≤ 32768) (hu : (cp_within T (cp T n).1 (cp T n).2 fl a b x σ).2.2 ≤ 524288)
    (hK : ∀ M', rx_Po M σ o fs (cp_within T (cp T n).1 (cp T n).2 fl a b x σ).2 M' → K (nI (cp_within T (cp T n).1 (cp T n).2 fl a b x σ).1) z M' L) : wRunI (d, 0, 0) mX3_within [.ref 23, .int (nI t), .int (nI a), .int (nI b), .ref s] z M L K := by
  obtain ⟨d, rfl, hd'⟩ := ak_deep (k := 8 * a + 8) hd.1
  have hd2 : 8 * b + 8 ≤ d := by omega
  have hN := hP.1.2.1
  have hx32 := hX.2.2.2.2.1
  have hwa : sm_w (T a) ≤ 8 := (wf a haN).2.1
  refine fX3_within_e ?_
  unfold cp_within at hc hu hK
  dsimp only at hc hu hK
  generalize hr : (cp T n).1 a x σ = r at hc hu hK
  generalize hbase : x.2.2.1 + sm_w (T a) = base at hc hu hK
  have W := cp_att_w (tr := tr) wf n b hb hbN hbk (by omega) r.1 base (cp_apl x) r.2
  generalize hg : (cp T n).2 b r.1 base (cp_apl x) r.2 = g at hc hu hK W
  generalize hp : (cp_wr T (b + 1) b (cp_apl x) g.1.2.2).1 = p at hc hu hK
  have mA : cp_le σ r.2 := by rw [← hr]; exact (cp_mono T n).1 a x σ
  have mB : cp_le r.2 g.2 := by rw [← hg]; exact (cp_mono T n).2 _ _ _ _ _
  have lA := cp_le_len mA
  have lB := cp_le_len mB
  have bnd : g.2.1.length + 1 ≤ 32768 ∧ g.2.2 + p.length ≤ 524288 := by
    split at hc
    · rename_i q
      rw [if_pos q] at hu
      simp only [List.length_append, List.length_singleton] at hc
      dsimp only at hu
      exact ⟨by omega, by omega⟩
    · rename_i q
      rw [if_neg q] at hu
      simp only [List.length_append, List.length_singleton] at hc
      dsimp only at hu
      exact ⟨by omega, by omega⟩
  refine HB a ha haN hak d M σ o fs s x _ hd' hP (rx_XA_sub hX fun k h => by rw [Nat.testBit_or, h, Bool.true_or]) ho.1 hz.1 (by rw [hr]; omega) (by rw [hr]; omega) fun M1 P1 => ?_
  rw [hr] at P1 ⊢
  have hP1 := rx_Pre_of hP P1
  have hX1 := rx_XA_F hX P1.2.2 (by omega)
  obtain ⟨-, -, -, -, -, -, m10, -⟩ := hP1.1.2.2 a haN
  rw [nI_clamp (by omega), m10]
  refine ⟨vp_in_nI (by omega) (by omega), ?_⟩
  refine rx_around (s := r.1) (w := x.2.2.1) (w0 := sm_w (T a)) (l' := sm_l (T b)) (pl := x.2.2.2) hX1.1 (by omega) hP1.2.1 hX1.2.2.2.1 (fun k k1 k2 => hX1.2.2.2.2.2 k (by omega) ?_) fun M2 R2 e0 e1 e2 e3 F2 => ?_
  · rw [Nat.testBit_or, Nat.testBit_shiftRight, Nat.add_comm 8 k, k2, Bool.or_true]
  rw [hbase] at e1
  have se : rx_sc (28 + 2 * o) := Or.inr ⟨o, by omega, rfl⟩
  have hP2 := rx_Pre_open hP1 R2 F2 (Or.inr rfl)
  refine rx_gO se ?_
  rw [R2.2.2.1, e1]
  refine rx_aw wf HA hb hbN hbk hd2 hP2 (a := 28 + 2 * o) (e := r.1) (w := base) (pl := cp_apl x) ⟨⟨o, by omega, rfl⟩, e0, e1, e2⟩ (by omega) hz.2 (by omega) g hg p hp (by omega) bnd.2 fun M3 M4 b0 b1 b2 b3 b4 b5 b6 => ?_
  rw [b0]
  generalize hM5 : am_up2 M4 23 6 (nI fs.length) = M5 at b1 ⊢
  have F5 : ∀ c, c ≠ 23 → M5 c = M4 c := fun c h => by rw [← hM5, ak_up_cell h]
  have hP5 : rx_Pre T N M5 _ (o + 1) fs := rx_Pre_open hP2 b1 (ex := 28 + 2 * o) (fun c h1 h2 => by rw [F5 c (by omega), b6 c h1 h2]) (Or.inl (by omega))
  obtain ⟨m4, -⟩ := hP5.1.2.2 t ht
  rw [nI_clamp (by omega), m4, hfl]
  -- the end
  have PE : rx_pl σ.2 M M5 := fun i hi => by rw [F5 22 (by omega), b5 i (by omega), e3 i (by omega), P1.2.1 i hi]
  have FE : rx_F o 23 M M5 := fun c h1 h2 => by rw [F5 c (by omega), b6 c (by omega) (by omega), F2 c h1 h2, P1.2.2 c h1 h2]
  have fin : ∀ {M6 : wd_M} {σ6 : cp_S} {v : Nat}, rx_R M6 σ6 (o + 1) fs → rx_pl (g.2.2 + p.length) M5 M6 → ak_fr 14 22 M5 M6 → σ6 = (if base < g.1.2.1 then ((g.2.1.length + 1, (g.2.1 ++ [if fl = true then cp_sel g.1.1 p else cp_ext g.1.1 p] ++ [cp_pick g.2.1.length (if fl = true then cp_sp base else cp_sp base ++ [nI g.1.2.1])], g.2.2 + p.length + (if fl = true then cp_sp base else cp_sp base ++ [nI g.1.2.1]).length)) : Nat × cp_S) else (g.2.1.length, (g.2.1 ++ [if fl = true then cp_sel g.1.1 p else cp_ext g.1.1 p], g.2.2 + p.length))).2 → v = (if base < g.1.2.1 then ((g.2.1.length + 1, (g.2.1 ++ [if fl = true then cp_sel g.1.1 p else cp_ext g.1.1 p] ++ [cp_pick g.2.1.length (if fl = true then cp_sp base else cp_sp base ++ [nI g.1.2.1])], g.2.2 + p.length + (if fl = true then cp_sp base else cp_sp base ++ [nI g.1.2.1]).length)) : Nat × cp_S) else (g.2.1.length, (g.2.1 ++ [if fl = true then cp_sel g.1.1 p else cp_ext g.1.1 p], g.2.2 + p.length))).1 → wRun (d + 1, 0, 0) mX3_within 197 [some (.ref 23), none, none, none, none, none, none, none, none, none, some (.int (nI v)), none] [] z M6 L (wQi K) := fun {M6 σ6 v} h1 h2 h3 h4 h5 => by
    subst h4 h5
    refine fX3_within_197 (wQi_i (hK _ ⟨rx_close (k := 1) h1, fun i hi => ?_, ?_⟩))
    · rw [ak_up_cell (by omega), h2 i (by omega), PE i hi]
    · exact rx_F_up (rx_F_trans FE (rx_F_of h3)) (Or.inl rfl)
  have a50 : M5 (28 + 2 * o) 0 = nI g.1.1 := by rw [F5 _ (by omega)]; exact b3
  have a51 : M5 (28 + 2 * o) 1 = nI g.1.2.1 := by rw [F5 _ (by omega)]; exact b4
  have b2 : sl_at (M5 22) g.2.2 p := by rw [F5 22 (by omega)]; exact b2
  -- behind the select or the extend
  have rest : ∀ {M6 : wd_M} {f : Int32}, (f = 0 ↔ fl = false) → rx_S M6 (g.2.1 ++ [if fl = true then cp_sel g.1.1 p else cp_ext g.1.1 p], g.2.2 + p.length) → rx_pl (g.2.2 + p.length) M5 M6 → ak_fr 14 22 M5 M6 → wRun (d + 1, 0, 0) mX3_within 129 [some (.ref 23), none, none, none, none, some (.ref (28 + 2 * o)), some (.int (nI base)), none, none, some (.int f), none, none] [.int (nI g.2.1.length)] z M6 L (wQi K) := fun {M6 f} hf h1 h2 h3 => by
    have R6 := rx_R_st b1 h1 h3
    have a61 : M6 (28 + 2 * o) 1 = nI g.1.2.1 := by rw [h3 _ (by omega)]; exact a51
    refine fX3_within_129 (rx_gO se ?_)
    rw [a61]
    refine ⟨fun q => ?_, fun q => ?_⟩
    · rw [nI_leI (by omega) (by omega)] at q
      have q' : ¬ base < g.1.2.1 := by omega
      exact fin R6 h2 h3 (by rw [if_neg q']) (by rw [if_neg q'])
    · rw [nI_leI (by omega) (by omega)] at q
      have q' : base < g.1.2.1 := by omega
      rw [if_pos q'] at hc hu
      simp only [List.length_append, List.length_singleton] at hc
      dsimp only at hu
      have hlen : (if fl = true then cp_sp base else cp_sp base ++ [nI g.1.2.1]).length = if fl = true then base else base + 1 := by
        cases fl <;> simp [cp_sp]
      rw [hlen] at hu
      refine rx_span (n := base) (by omega) h1 (by dsimp only; cases fl <;> simp at hu <;> omega) rfl fun M7 c1 c2 c3 c4 => ?_
      dsimp only at c1 c2 c3
      have R7 := rx_R_st R6 c1 c4
      have lk : (g.2.1 ++ [if fl = true then cp_sel g.1.1 p else cp_ext g.1.1 p]).length = g.2.1.length + 1 := by simp
      refine ⟨fun e => ?_, fun e => ?_⟩
      · have ef := hf.mp e
        subst ef
        refine rx_gO se ?_
        rw [c4 _ (by omega), a61]
        refine rx_put c1 (by dsimp only; simp at hu; omega) fun M8 i1 i2 i3 i4 => fX3_within_170 ⟨fun _ => fX3_within_192 ?_, fun q => absurd e q⟩
        dsimp only at i1 i2 i3
        have hsl : sl_at (M8 22) (g.2.2 + p.length) (cp_sp base ++ [nI g.1.2.1]) := sl_app.mpr ⟨rx_pl_sl i3 c3 (by rw [cp_sp_len]; exact Nat.le_refl _), sl_one.mpr (by rw [cp_sp_len]; exact i2)⟩
        have hl2 : (cp_sp base ++ [nI g.1.2.1]).length = base + 1 := by simp [cp_sp]
        rw [nI_1]
        refine rx_pick (p := g.2.2 + p.length) (ls := cp_sp base ++ [nI g.1.2.1]) (by omega) i1 (by rw [lk]; omega) (by rw [hl2]) (by rw [hl2]; dsimp only; omega) hsl fun M9 k1 k2 k3 => ?_
        dsimp only at k1 k2
        rw [lk]
        refine fin (rx_R_st (rx_R_st R7 i1 i4) k1 k3) (fun q hq => ?_) (ak_fr_trans h3 (ak_fr_trans c4 (ak_fr_trans i4 k3))) ?_ ?_
        · rw [k2 q (by omega), i3 q (by omega), c2 q hq, h2 q hq]
        · rw [if_pos q']
          simp [cp_sp]
          omega
        · rw [if_pos q']
      · have ef : fl = true := by
          cases hfl' : fl with
          | true => rfl
          | false => exact absurd (hf.mpr hfl') e
        subst ef
        refine fX3_within_170 ⟨fun q => absurd q e, fun _ => fX3_within_192 ?_⟩
        refine rx_pick (p := g.2.2 + p.length) (ls := cp_sp base) (by omega) c1 (by rw [lk]; omega) (by rw [cp_sp_len]) (by rw [cp_sp_len]; exact Nat.le_refl _) c3 fun M9 k1 k2 k3 => ?_
        dsimp only at k1 k2
        rw [lk]
        refine fin (rx_R_st R7 k1 k3) (fun q hq => ?_) (ak_fr_trans h3 (ak_fr_trans c4 k3)) ?_ ?_
        · rw [k2 q (by omega), c2 q hq, h2 q hq]
        · rw [if_pos q']
          simp [cp_sp]
        · rw [if_pos q']
  refine ⟨vp_in_nI (by omega) (by omega), fun q => ?_, fun q => ?_⟩
  · have ef : fl = true := by
      cases fl with
      | true => rfl
      | false => exact absurd q (by decide)
    subst ef
    refine fX3_within_91 ⟨fun q => absurd q (by decide), fun _ => rx_gO se ?_⟩
    rw [a50]
    refine rx_sel (p := g.2.2) (ls := p) (by omega) b1.1 (by dsimp only; omega) rfl b2 fun M6 c1 c2 c3 => ?_
    exact rest ⟨fun q => absurd q (by decide), fun q => by cases q⟩ c1 c2 c3
  · have ef : fl = false := by
      cases fl with
      | true => exact absurd rfl q
      | false => rfl
    subst ef
    refine fX3_within_91 ⟨fun _ => rx_gO se ?_, fun q => absurd rfl q⟩
    rw [a50]
    refine rx_ext (p := g.2.2) (ls := p) (by omega) b1.1 (by dsimp only; omega) rfl b2 fun M6 c1 c2 c3 => ?_
    exact rest ⟨fun _ => rfl, fun _ => rfl⟩ c1 c2 c3
end RZ
