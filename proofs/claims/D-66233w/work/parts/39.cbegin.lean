/-! CONTRACTS of ApplyFree$Index: begin (its two formulas are printed by wip/gen/vcgen.py) -/
set_option maxRecDepth 100000
theorem fX7_begin_e {d : Nat} {z : wd_Z} {M : wd_M} {L : wd_L} {Q : am_Q} {x2 x3 x5 x6 : Int32} {a1 a4 : Nat} (h : am_Run (d, 0, 0) mX7_begin 41 [some (.ref 631), none, none, none, none, none, none, some (.int 0)] [] (am_up2 (am_up2 (am_up2 (am_up2 (am_up2 M 631 8 x2) 631 9 x3) 631 11 x5) 631 12 x6) 631 6 0, L, am_upR (am_upR (wd_R z) 631 7 (some a1)) 631 10 (some a4), wd_typ z, 666 + 2 * z.2.1) Q) : am_Rn (d, 0, 0) mX7_begin [.ref 631, .ref a1, .int x2, .int x3, .ref a4, .int x5, .int x6] (wd z M L) Q := am_vc_run (r := mX7_begin) wd_lf_e kX7_begin (by decide) (ct := [(41, [true, false, false, false, false, false, false, true])]) 35 h
theorem fX7_begin_41 {d : Nat} {z : wd_Z} {M : wd_M} {L : wd_L} {Q : am_Q} {x7 : Int32} (h : (((4096 : Int32) ≤ x7 → Q none (wd z M L)) ∧ (¬ (4096 : Int32) ≤ x7 → (vp_in x7 4096 ∧ wRun (d, 0, 0) mX7_begin 41 [some (.ref 631), none, none, none, none, none, none, some (.int (x7 + 1))] [] z (am_up2 M 632 x7.toNatClampNeg (-1)) L Q)))) : wRun (d, 0, 0) mX7_begin 41 [some (.ref 631), none, none, none, none, none, none, some (.int x7)] [] z M L Q := am_vc_run (r := mX7_begin) wd_lf_e kX7_begin (by decide) (ct := [(41, [true, false, false, false, false, false, false, true])]) 35 h
def ix_z (z : wd_Z) (b : Nat) : wd_Z := (z.1, z.2.1, z.2.2.1, some 638, some b)
theorem ix_z_R (z : wd_Z) (b : Nat) : am_upR (am_upR (wd_R z) 631 7 (some 638)) 631 10 (some b) = wd_R (ix_z z b) := by
  funext a k
  by_cases ha : a = 631
  · subst ha
    have e1 : wd_R (ix_z z b) 631 k = cond (Nat.beq k 7) (some 638) (cond (Nat.beq k 10) (some b) (wd_nth none (wd_nth [] wd_r2 3) k)) := rfl
    have e2 : wd_R z 631 k = cond (Nat.beq k 7) z.2.2.2.1 (cond (Nat.beq k 10) z.2.2.2.2 (wd_nth none (wd_nth [] wd_r2 3) k)) := rfl
    rw [e1]
    unfold am_upR am_upC
    rw [if_pos rfl, if_pos rfl]
    unfold va_up
    by_cases h10 : k = 10
    · rw [if_pos h10, h10]; rfl
    · rw [if_neg h10, ak_beq_f h10]
      by_cases h7 : k = 7
      · rw [if_pos h7, h7]; rfl
      · rw [if_neg h7, ak_beq_f h7, e2, ak_beq_f h7, ak_beq_f h10]; rfl
  · unfold am_upR am_upC
    rw [if_neg ha, if_neg ha]
    unfold wd_R ix_z
    rw [ak_beq_f ha]
    rfl
theorem ix_z_typ (z : wd_Z) (b : Nat) : wd_typ (ix_z z b) = wd_typ z := rfl
section IB
variable {d : Nat} {z : wd_Z} {L : wd_L}
theorem ix_begin_41 {Q : am_Q} : ∀ (n i : Nat) (M : wd_M), i + n = 4096 → (∀ h, h < i → M 632 h = -1) → (∀ M', (∀ h, h < 4096 → M' 632 h = -1) → (∀ c, c ≠ 632 → M' c = M c) → Q none (wd z M' L)) → wRun (d, 0, 0) mX7_begin 41 [some (.ref 631), none, none, none, none, none, none, some (.int (nI i))] [] z M L Q
  | 0, i, M, hi, hh, hQ => by
    have ei : i = 4096 := by omega
    subst ei
    exact fX7_begin_41 ⟨fun _ => hQ M hh fun _ _ => rfl, fun q => absurd (nI_le (a := 4096) (b := 4096) (by omega) (by omega)) q⟩
  | n + 1, i, M, hi, hh, hQ => by
    refine fX7_begin_41 ⟨fun q => absurd q (by rw [show (4096 : Int32) = nI 4096 from rfl]; exact nI_ge (by omega) (by omega)), fun _ => ?_⟩
    rw [nI_clamp (by omega), nI_1]
    refine ⟨vp_in_nI (by omega) (by omega), ix_begin_41 n (i + 1) _ (by omega) (fun h hlt => ?_) fun M' g1 g2 => hQ M' g1 fun c hc => by rw [g2 c hc, ak_up_cell hc]⟩
    by_cases e : h = i
    · rw [e, ak_up_same]
    · rw [ak_up_ne e]; exact hh h (by omega)
theorem ix_begin {M : wd_M} {p w b f n : Nat} {kf : ay_Row → List Int32} {R : List ay_Row} {K : wd_Z → wd_M → wd_L → Prop} (hb : b = 22 ∨ b = 644) (hkey : ∀ i r, R[i]? = some r → ix_key M 638 (p + i * w) b f (kf r) ∧ (kf r).length = n)
    (hK : ∀ M', ix_J (ix_z z b) M' p w b f n kf R 0 → (∀ c, c ≠ 631 → c ≠ 632 → M' c = M c) → K (ix_z z b) M' L) : wRunV (d, 0, 0) mX7_begin [.ref 631, .ref 638, .int (nI p), .int (nI w), .ref b, .int (nI f), .int (nI n)] z M L K := by
  refine fX7_begin_e ?_
  rw [ix_z_R]
  refine ix_begin_41 (z := ix_z z b) 4096 0 _ rfl (fun h hh => by omega) fun M' g1 g2 => wQv_i (hK M' ⟨⟨rfl, rfl, ?_, ?_, ?_, ?_⟩, ⟨?_, fun h hh => g1 h hh, fun j hj => ?_⟩, fun i r hi => ?_, fun j q hq => ?_, fun i q hq => ?_⟩ fun c c1 c2 => ?_)
  · rw [g2 631 (by omega), ak_up_ne (by omega), ak_up_ne (by omega), ak_up_ne (by omega), ak_up_ne (by omega), ak_up_same]
  · rw [g2 631 (by omega), ak_up_ne (by omega), ak_up_ne (by omega), ak_up_ne (by omega), ak_up_same]
  · rw [g2 631 (by omega), ak_up_ne (by omega), ak_up_ne (by omega), ak_up_same]
  · rw [g2 631 (by omega), ak_up_ne (by omega), ak_up_same]
  · rw [g2 631 (by omega), ak_up_same]; rfl
  · exact absurd hj (by unfold ix_Ks ix_kl; simp [sm_once])
  · have e : ∀ c, c ≠ 631 → c ≠ 632 → M' c = M c := fun c c1 c2 => by rw [g2 c c2, ak_up_cell c1, ak_up_cell c1, ak_up_cell c1, ak_up_cell c1, ak_up_cell c1]
    exact ⟨ix_key_fr (hkey i r hi).1 (e 638 (by omega) (by omega)) (e b (by omega) (by omega)), (hkey i r hi).2⟩
  · unfold ix_Ks ix_kl at hq; simp [sm_once] at hq
  · unfold ix_kl at hq; simp at hq
  · rw [g2 c c2, ak_up_cell c1, ak_up_cell c1, ak_up_cell c1, ak_up_cell c1, ak_up_cell c1]
end IB
