/-! calls, returns, and: verification conditions give the run -/
set_option maxRecDepth 100000
/-- a state that holds the memory -/
def am_Wd (b h0 Ln : Nat) (xs : Nat → Int32) (D : va_G) (aC : Nat → ClassId) (m : am_Mem) (U : State) : Prop := am_Hd b h0 Ln xs D aC m U.heap ∧ va_K D am_cl (am_tys aC) U ∧ am_NW U ∧ va_X b Ln xs U U.heap ∧ b < h0
def am_Qc (b h0 Ln : Nat) (xs : Nat → Int32) (D : va_G) (aC : Nat → ClassId) (Q : am_Q) : Array Value → State → Outcome → State → Prop := fun _ s o t =>
  (∃ (v : Option Value) (m' : am_Mem), o = .returned (v.map (am_rv (am_ad b h0))) ∧ Q v m' ∧ am_Hd b h0 Ln xs D aC m' t.heap) ∧ va_F (fun q => h0 ≤ q) s t
theorem am_NW.warm {s U : State} (hW : s.WarmedH U.vm) (h : am_NW s) : am_NW U := ⟨fun c hc e he h3 => va_Nw.warmM hW (h.1 c hc e he h3), h.2.1.moved hW.alike, h.2.2.moved hW.alike⟩
theorem am_NW.same {s U : State} (hv : s.vm = U.vm) (h : am_NW s) : am_NW U := ⟨fun c hc e he h3 => va_Nw.same rfl hv (h.1 c hc e he h3), h.2.1.moved (by rw [hv]; exact Vm.Alike.refl _), h.2.2.moved (by rw [hv]; exact Vm.Alike.refl _)⟩
theorem am_ent_len : ∀ (n : Nat) (vs : List Value), (am_ent n vs).length = n
  | 0, _ => by unfold am_ent; rfl
  | n + 1, [] => by unfold am_ent; exact congrArg (· + 1) (am_ent_len n [])
  | 1, _ :: _ => by unfold am_ent; rfl
  | n + 2, v :: t => by
    unfold am_ent
    cases am_c2 v with
    | true => exact congrArg (· + 2) (am_ent_len n t)
    | false => exact congrArg (· + 1) (am_ent_len (n + 1) t)
theorem am_c2_cat {v : Value} : v.category = if am_c2 v then 2 else 1 := by cases v <;> rfl
theorem am_ent_nil : ∀ (n i : Nat), am_get (am_ent n []) i = none
  | 0, i => by unfold am_ent; cases i <;> rfl
  | n + 1, 0 => by unfold am_ent; rfl
  | n + 1, i + 1 => by unfold am_ent; exact am_ent_nil n i
theorem am_ent_get (ad : Nat → Nat) : ∀ (n : Nat) (vs : List Value) (i off : Nat) (v : Value), am_get (am_ent n vs) i = some v → (off + i, am_rv ad v) ∈ lv_args off (vs.map (am_rv ad))
  | 0, _, i, off, v, h => by unfold am_ent at h; cases i <;> cases h
  | n + 1, [], i, off, v, h => by rw [am_ent_nil] at h; cases h
  | 1, w :: vs, i, off, v, h => by
    unfold am_ent at h
    cases i with
    | zero => cases h; exact List.mem_cons_self
    | succ i => cases i <;> cases h
  | n + 2, w :: vs, i, off, v, h => by
    unfold am_ent at h
    show _ ∈ (off, am_rv ad w) :: lv_args (if (am_rv ad w).category = 2 then off + 2 else off + 1) (vs.map (am_rv ad))
    rw [am_rv_cat, am_c2_cat]
    cases hc : am_c2 w with
    | true =>
      rw [hc] at h
      match i, h with
      | 0, h => cases h; exact List.mem_cons_self
      | 1, h => cases h
      | i + 2, h =>
        have := am_ent_get ad n vs i (off + 2) v h
        refine List.mem_cons_of_mem _ ?_
        rw [show off + (i + 2) = off + 2 + i by omega]
        exact this
    | false =>
      rw [hc] at h
      match i, h with
      | 0, h => cases h; exact List.mem_cons_self
      | i + 1, h =>
        have := am_ent_get ad (n + 1) vs i (off + 1) v h
        refine List.mem_cons_of_mem _ ?_
        rw [show off + (i + 1) = off + 1 + i by omega]
        exact this
theorem am_wd_len (ad : Nat → Nat) : ∀ (vs : List Value), (lg_sl (vs.map (am_rv ad))).length = am_wd vs
  | [] => rfl
  | v :: vs => by
    have ih := am_wd_len ad vs
    have e : lg_sl ((v :: vs).map (am_rv ad)) = (if (am_rv ad v).category = 2 then [Slot.val (am_rv ad v), .second] else [.val (am_rv ad v)]) ++ lg_sl (vs.map (am_rv ad)) := rfl
    rw [e, List.length_append, ih, am_rv_cat]
    cases v <;> simp [Value.category, am_wd] <;> omega
theorem am_wd_sum (ad : Nat → Nat) : ∀ (vs : List Value), ((vs.map (am_rv ad)).map fun v => v.category).sum = am_wd vs
  | [] => rfl
  | v :: vs => by
    have ih := am_wd_sum ad vs
    show (am_rv ad v).category + ((vs.map (am_rv ad)).map fun v => v.category).sum = _
    rw [ih, am_rv_cat]
    cases v <;> simp [Value.category, am_wd] <;> omega
theorem am_args_e : ∀ {n : Nat} {st acc as rest : List Value}, am_args n st acc = some (as, rest) → ∃ fr, as = fr ++ acc ∧ fr.length = n ∧ st = fr.reverse ++ rest
  | 0, st, acc, as, rest, h => by
    cases h
    exact ⟨[], rfl, rfl, rfl⟩
  | n + 1, [], acc, as, rest, h => by cases h
  | n + 1, v :: st, acc, as, rest, h => by
    obtain ⟨fr, h1, h2, h3⟩ := am_args_e (n := n) (st := st) (acc := v :: acc) h
    exact ⟨fr ++ [v], by rw [h1]; simp, by simp [h2], by rw [h3]; simp⟩
/-- a run from the entry is a contract -/
theorem am_met {r : am_MR} (ok : am_MOK r) {d kc ks : Nat} {as : List Value} {m : am_Mem} {Q : am_Q} (hw : am_wd as ≤ r.2.2.1) (h : am_Rn (d, kc, ks) r as m Q) (l : Launch) (b h0 Ln : Nat) (xs : Nat → Int32) (D : va_G) (aC : Nat → ClassId) :
    Met l r.1 (ws_ r.1 r.2.1 r.2.2.1 r.2.2.2.1) ({ frames := d, cells := kc, slots := ks, locals := 40 * d }) (va_Pc (as.map (am_rv (am_ad b h0))) (am_Wd b h0 Ln xs D aC m)) (am_Qc b h0 Ln xs D aC Q) kc ks (fun q => h0 ≤ q) := by
  refine Met.ofW (cc := r.2.1) (maxL := r.2.2.1) (ret := r.2.2.2.1) ok.2.1 rfl ?_
  intro p e s m0 args below meth c s₁ B hml hv
  obtain ⟨rfl, hH, hK, hN, hX, hb⟩ := hv
  have hts := atoms_spec (ws := ws_ r.1 r.2.1 r.2.2.1 r.2.2.2.1) B.pre
  have hts : ∀ w ∈ lw_all, w.before _ s = true := fun w h => hts w (List.mem_cons_of_mem _ h)
  have hown : s.vm.findClass r.1.cls = some m0.cls := findClass_of_methodNamed B.named
  have hlocks : meth.locks = false := B.notSynchronized
  have hname : meth.name = r.1.name := (name_of_methodNamed B.named B.method).1
  have hl := lv_entry (as.map (am_rv (am_ad b h0))) (n := r.2.2.1) (by rw [am_wd_len]; exact hw)
  rw [lg_entry_eq]
  generalize (lg_sl (as.map (am_rv (am_ad b h0))) ++ List.replicate (r.2.2.1 - (lg_sl (as.map (am_rv (am_ad b h0)))).length) Slot.unset).toArray = ls at hl ⊢
  have hL : am_Lv (am_ad b h0) ls r.2.2.1 (am_ent r.2.2.1 as) := ⟨hl.1, hl.2.1, am_ent_len _ _, fun i v hg => by
    have := am_ent_get (am_ad b h0) _ _ _ 0 _ hg
    rw [Nat.zero_add] at this
    exact hl.2.2 _ this⟩
  have hbs : b < s.heap.size := by rw [hH.2.1]; omega
  refine h p l e _ s m0 _ below meth c s.heap [] 0 0 _ ls b h0 Ln xs D aC ⟨B.exec, B.bytes, hml, by rw [← ok.2.2.1]; exact hown, hts, B.returns, hlocks, hname, hK, hN, hX, hb, by rw [hH.2.1]; omega⟩ hH va_S.rf hL ⟨Nat.le_refl _, Nat.le_refl _, by show 0 + kc ≤ kc; omega, by show 0 + ks ≤ ks; omega⟩ ?_
  intro v m' H' locs' pc' ls' q hH' hS' hrt
  show W p l e _ s m0 _ below meth c H' locs' (0 + kc) (0 + ks) _ _
  rw [Nat.zero_add, Nat.zero_add]
  have post : ∀ t : State, t.heap = H' → s.WarmedH t.vm → am_Qc b h0 Ln xs D aC Q (as.map (am_rv (am_ad b h0))).toArray s (.returned (v.map (am_rv (am_ad b h0)))) t := fun t ht hW =>
    ⟨⟨v, m', rfl, q, by rw [ht]; exact hH'⟩, hS'.F ht⟩
  match v, hrt, post with
  | none, hrt, post => exact W.vret B.exec B.bytes (B.returns.trans hrt.1) post hS'.2.2 hrt.2 hlocks
  | some (.int x), hrt, post =>
    rcases hrt.2 with h1 | ⟨h1, h2⟩
    · exact W.iret B.exec B.bytes (B.returns.trans h1) post hS'.2.2 hrt.1 hlocks
    · exact W.zret B.exec B.bytes (B.returns.trans h1) (by rcases h2 with rfl | rfl <;> rfl) post hS'.2.2 hrt.1 hlocks
  | some (.long x), hrt, post => exact W.lret B.exec B.bytes (B.returns.trans hrt.1) post hS'.2.2 hrt.2 hlocks
  | some (.ref x), hrt, post =>
    obtain ⟨n, hn⟩ := hrt.1
    exact W.aret B.exec B.bytes (B.returns.trans hn) (Or.inl ⟨n, rfl⟩) (Or.inr ⟨_, rfl⟩) post hS'.2.2 hrt.2 hlocks
  | some (.float _), hrt, _ => exact absurd hrt id
  | some (.double _), hrt, _ => exact absurd hrt id
  | some .null, hrt, _ => exact absurd hrt id
  | some (.retAddr _), hrt, _ => exact absurd hrt id
theorem am_call_e {lf : am_LF} (hlf : ∀ P m, lf P m → P m) {Rn : am_RN} {r' : am_MR} {as : List Value} {rest : am_ST} {nx : Nat} {B : am_Bd} {al : am_AL} {m : am_Mem} {K : am_K} (h : am_call lf Rn r' as rest nx B al m K) :
    ∃ d kc ks Q', B = (d + 1, kc, ks) ∧ am_wd rest ≤ 8 ∧ am_wd as ≤ r'.2.2.1 ∧ r'.2.2.2.2.2.2.1.1 ≤ kc ∧ r'.2.2.2.2.2.2.1.2 ≤ ks ∧ Rn (d, r'.2.2.2.2.2.2.1.1, r'.2.2.2.2.2.2.1.2) r' as m Q' ∧ ∀ v m', Q' v m' → K (d + 1, kc - r'.2.2.2.2.2.2.1.1, ks - r'.2.2.2.2.2.2.1.2) nx al (v.toList ++ rest) m' := by
  unfold am_call at h
  split at h
  · rename_i d kc ks
    obtain ⟨g, h⟩ := am_gd_e h
    simp only [Bool.and_eq_true] at g
    obtain ⟨g1, g2, g3, g4⟩ := g
    refine ⟨d, kc, ks, ?_⟩
    split at h
    · exact ⟨_, rfl, Nat.le_of_ble_eq_true g1, Nat.le_of_ble_eq_true g2, Nat.le_of_ble_eq_true g3, Nat.le_of_ble_eq_true g4, h, fun v m' q => by
        match v, q with
        | none, q => exact hlf _ _ q⟩
    · exact ⟨_, rfl, Nat.le_of_ble_eq_true g1, Nat.le_of_ble_eq_true g2, Nat.le_of_ble_eq_true g3, Nat.le_of_ble_eq_true g4, h, fun v m' q => by
        match v, q with
        | some (.int x), q => exact hlf _ _ q⟩
    · exact ⟨_, rfl, Nat.le_of_ble_eq_true g1, Nat.le_of_ble_eq_true g2, Nat.le_of_ble_eq_true g3, Nat.le_of_ble_eq_true g4, h, fun v m' q => by
        match v, q with
        | some (.int x), q => exact hlf _ _ q⟩
    · exact ⟨_, rfl, Nat.le_of_ble_eq_true g1, Nat.le_of_ble_eq_true g2, Nat.le_of_ble_eq_true g3, Nat.le_of_ble_eq_true g4, h, fun v m' q => by
        match v, q with
        | some (.long x), q => exact hlf _ _ q⟩
    · exact ⟨_, rfl, Nat.le_of_ble_eq_true g1, Nat.le_of_ble_eq_true g2, Nat.le_of_ble_eq_true g3, Nat.le_of_ble_eq_true g4, h, fun v m' q => by
        match v, q with
        | some (.ref x), q => exact hlf _ _ q⟩
    · exact absurd h id
  · exact absurd h id
theorem am_copy_o {M : Nat → Nat → Int32} {a0 a sp dp n c : Nat} (h : c ≠ a) : am_copy M a0 a sp dp n c = M c := by unfold am_copy am_upC; rw [if_neg h]
theorem am_copy_s {M : Nat → Nat → Int32} {a0 a sp dp n : Nat} : am_copy M a0 a sp dp n a = va_cpy (M a0) (M a) sp dp n := by unfold am_copy am_upC; rw [if_pos rfl]
theorem am_q_oi : Cond.instanceMethod Lib.objectInit ∈ lw_all ∧ Cond.code Lib.objectInit ⟨#[0xb1]⟩ 1 none ∈ lw_all := ⟨q98, q99⟩
/-- constructors answer nothing -/
theorem am_init_void {c idx k : Nat} {r : am_MR} (hc : c < 13) (hk : k = 2 ∨ k = 3) (h : am_lk (am_ml c) idx = some (k, r)) : r.2.2.2.1 = none := by
  have key : ∀ c, c < 13 → ∀ e ∈ am_ml c, (Nat.beq e.2.1 2 || Nat.beq e.2.1 3) = true → e.2.2.2.2.2.1 = none := by decide +kernel
  exact key c hc _ (am_lk_mem h) (by rcases hk with rfl | rfl <;> rfl)
section SM
variable {B : am_Bd} {r : am_MR} {pc nx : Nat} {ts : List Nat} {al : am_AL} {st : am_ST} {m m' : am_Mem} {K : am_K} {Q : am_Q}
/-- behind a call -/
theorem am_after {p : Program} {l : Launch} {e : Env} {R : Room} {s : State} {mid : MethodId} {args a : Array Value} {below : List Frame} {meth : Method} {c : Code} {H : Heap} {locs : List Loc} {cells slots mc ms : Nat} {Qs : State → Prop} {ls : Array Slot} {b h0 Ln : Nat} {xs : Nat → Int32} {D : va_G} {aC : Nat → ClassId} {Q' : am_Q} {rest st0 : List Value}
    (hr : va_Run p l e R s mid args below meth c H locs cells slots mc ms (F0 mid pc ls st0) rest (am_Qc b h0 Ln xs D aC Q' a) (fun q => h0 ≤ q)) (hS : va_S (fun q => h0 ≤ q) s.heap H locs)
    (kk : ∀ (v : Option Value) (m' : am_Mem) (H1 : Heap) (locs1 : List Loc), Q' v m' → am_Hd b h0 Ln xs D aC m' H1 → va_S (fun q => h0 ≤ q) s.heap H1 locs1 → W p l e R s mid args below meth c H1 locs1 (cells + mc) (slots + ms) Qs (F0 mid (pc + 3) ls ((v.map (am_rv (am_ad b h0))).toList ++ rest))) : W p l e R s mid args below meth c H locs cells slots Qs (F0 mid pc ls st0) := by
  intro T hT X
  obtain ⟨v, st₀, t, T', L, hh, X', hL, e1, e2, ⟨⟨v', m', hv, hq, hH'⟩, hz, hk⟩, st⟩ := hr T hT X
  have hv : v = v'.map (am_rv (am_ad b h0)) := by cases hv; rfl
  subst hv
  rw [hh] at hz hk
  obtain ⟨t2, a1, b1⟩ := kk v' m' T'.heap (locs ++ L) hq (by rw [e1]; exact hH')
    ⟨Nat.le_trans hS.1 (by rw [e1]; exact hz), fun q h1 h2 => by rw [e1, hk q (Nat.lt_of_lt_of_le h1 hS.1) h2]; exact hS.2.1 q h1 h2, fun q hq => by
      rcases List.mem_append.mp hq with h | h
      · exact hS.2.2 q h
      · exact hL q h⟩ T' rfl X'
  exact ⟨t2, st t2 a1, b1⟩
/-- the callee's start holds where the caller stands -/
theorem am_pre {p : Program} {s : State} {mid : MethodId} {args : Array Value} {meth : Method} {c : Code} {H : Heap} {locs : List Loc} {b h0 Ln : Nat} {xs : Nat → Int32} {D : va_G} {aC : Nat → ClassId} (C : am_Cx p s mid args meth c r b h0 Ln xs D aC) (hH : am_Hd b h0 Ln xs D aC m H) (hS : va_S (fun q => h0 ≤ q) s.heap H locs) (as : List Value) :
    FrameBlind (va_Pc (as.map (am_rv (am_ad b h0))) (am_Wd b h0 Ln xs D aC m)) ∧ ∀ U : State, U.heap = H → s.WarmedH U.vm → va_Pc (as.map (am_rv (am_ad b h0))) (am_Wd b h0 Ln xs D aC m) (as.map (am_rv (am_ad b h0))).toArray U := by
  obtain ⟨-, -, -, -, -, -, -, -, hK, hN, hX, hb, hh⟩ := C
  refine ⟨fun a U g mk q => ?_, fun U hU hW => ⟨rfl, by rw [hU]; exact hH, va_K.moved hW.alike hK, hN.warm hW, ?_, hb⟩⟩
  · obtain ⟨q0, qH, qK, qN, qX, qb⟩ := q
    exact ⟨q0, qH, va_K.moved (u := U) (U := U.calling g mk a) (Vm.Alike.refl U.vm) qK, am_NW.same (U := U.calling g mk a) rfl qN, va_X.moved (u := U) (U := U.calling g mk a) (Vm.Alike.refl U.vm) qX, qb⟩
  · rw [hU]
    exact va_X.moved hW.alike (hX.kept (hS.2.1 b (Nat.lt_of_lt_of_le hb hh) (Nat.not_le.mpr hb)))
/-- room for a call -/
theorem am_room {R : Room} {d mL : Nat} (h1 : d + 1 ≤ R.frames) (h2 : 40 * (d + 1) ≤ R.locals) (h3 : mL ≤ 21) : d + 1 ≤ R.frames ∧ 8 + (mL + 11) + 40 * d ≤ R.locals := ⟨h1, by omega⟩
theorem am_cont {r' : am_MR} {d kc ks : Nat} {rest : am_ST} (hK : am_KR r K Q) {p : Program} {l : Launch} {e : Env} {R : Room} {s : State} {mid : MethodId} {args : Array Value} {below : List Frame} {meth : Method} {c : Code} {cells slots : Nat} {Qs : State → Prop} {ls : Array Slot} {b h0 Ln : Nat} {xs : Nat → Int32} {D : va_G} {aC : Nat → ClassId} {Q' : am_Q}
    (C : am_Cx p s mid args meth c r b h0 Ln xs D aC) (hL : am_Lv (am_ad b h0) ls r.2.2.1 al) (hR : am_Rm (d + 1, kc, ks) R cells slots) (g3 : r'.2.2.2.2.2.2.1.1 ≤ kc) (g4 : r'.2.2.2.2.2.2.1.2 ≤ ks)
    (hc : ∀ v m', Q' v m' → K (d + 1, kc - r'.2.2.2.2.2.2.1.1, ks - r'.2.2.2.2.2.2.1.2) nx al (v.toList ++ rest) m')
    (hE : ∀ (v : Option Value) (m' : am_Mem) (H' : Heap) (locs' : List Loc) (pc' : Nat) (ls' : Array Slot), Q v m' → am_Hd b h0 Ln xs D aC m' H' → va_S (fun q => h0 ≤ q) s.heap H' locs' → am_rtn r pc' v → W p l e R s mid args below meth c H' locs' (cells + kc) (slots + ks) Qs (F0 mid pc' ls' ((v.map (am_rv (am_ad b h0))).toList)))
    (v : Option Value) (m' : am_Mem) (H1 : Heap) (locs1 : List Loc) (q : Q' v m') (hH1 : am_Hd b h0 Ln xs D aC m' H1) (hS1 : va_S (fun q => h0 ≤ q) s.heap H1 locs1) :
    W p l e R s mid args below meth c H1 locs1 (cells + r'.2.2.2.2.2.2.1.1) (slots + r'.2.2.2.2.2.2.1.2) Qs (F0 mid nx ls ((v.map (am_rv (am_ad b h0))).toList ++ rest.map (am_rv (am_ad b h0)))) := by
  obtain ⟨r1, r2, r3, r4⟩ := hR
  have r3 : cells + kc ≤ R.cells := r3
  have r4 : slots + ks ≤ R.slots := r4
  have key := hK _ _ _ _ _ (hc v m' q) p l e R s mid args below meth c H1 locs1 (cells + r'.2.2.2.2.2.2.1.1) (slots + r'.2.2.2.2.2.2.1.2) Qs ls b h0 Ln xs D aC C hH1 hS1 hL ⟨r1, r2, by show cells + r'.2.2.2.2.2.2.1.1 + (kc - r'.2.2.2.2.2.2.1.1) ≤ R.cells; omega, by show slots + r'.2.2.2.2.2.2.1.2 + (ks - r'.2.2.2.2.2.2.1.2) ≤ R.slots; omega⟩ (by
    have e1 : cells + r'.2.2.2.2.2.2.1.1 + (kc - r'.2.2.2.2.2.2.1.1) = cells + kc := by omega
    have e2 : slots + r'.2.2.2.2.2.2.1.2 + (ks - r'.2.2.2.2.2.2.1.2) = slots + ks := by omega
    show ∀ (v : Option Value) (m' : am_Mem) (H' : Heap) (locs' : List Loc) (pc' : Nat) (ls' : Array Slot), Q v m' → am_Hd b h0 Ln xs D aC m' H' → va_S (fun q => h0 ≤ q) s.heap H' locs' → am_rtn r pc' v → W p l e R s mid args below meth c H' locs' (cells + r'.2.2.2.2.2.2.1.1 + (kc - r'.2.2.2.2.2.2.1.1)) (slots + r'.2.2.2.2.2.2.1.2 + (ks - r'.2.2.2.2.2.2.1.2)) Qs (F0 mid pc' ls' ((v.map (am_rv (am_ad b h0))).toList))
    rw [e1, e2]
    exact hE)
  have e : (v.toList ++ rest).map (am_rv (am_ad b h0)) = (v.map (am_rv (am_ad b h0))).toList ++ rest.map (am_rv (am_ad b h0)) := by cases v <;> simp
  rw [e] at key
  exact key
theorem so_virt {lf : am_LF} (hlf : ∀ P m, lf P m → P m) {idx : Nat} (hci : r.2.2.2.2.1 < 13) (hd : decode r.2.1 pc = .ok (.invokevirtual idx, 3)) (hn : nx = pc + 3) (h : ao_virt lf am_Rn r.2.2.2.2.1 idx nx B al st m K) (hK : am_KR r K Q) : am_Run B r pc al st m Q := by
  unfold ao_virt at h
  split at h
  · rename_i r' hl
    split at h
    · rename_i a as rest hargs
      obtain ⟨g, h⟩ := am_gd_e h
      obtain ⟨d, kc, ks, Q', rfl, g1, g2, g3, g4, hrun, hc⟩ := am_call_e hlf h
      obtain ⟨f1, f2, f3, f4, ok⟩ := am_ml_ok _ hci _ (am_lk_mem hl)
      obtain ⟨fr, e1, e2, e3⟩ := am_args_e hargs
      rw [List.append_nil] at e1
      subst e1
      intro p l e R s mid args below meth c H locs cells slots Qs ls b h0 Ln xs D aC C hH hS hL hR hE
      subst hn
      have hP := am_pre C hH hS (.ref a :: as)
      have hob := hH.obj (am_isO_e g)
      obtain ⟨-, -, hcj⟩ := hH.objIn (am_isO_e g)
      have hstk : st.map (am_rv (am_ad b h0)) = (as.map (am_rv (am_ad b h0))).reverse ++ .ref (am_ad b h0 a) :: rest.map (am_rv (am_ad b h0)) := by
        rw [e3]; simp [am_rv]
      rw [hstk]
      refine am_after (va_runV (As := as.map (am_rv (am_ad b h0))) (rest := rest.map (am_rv (am_ad b h0))) ⟨C.1, C.2.1, C.2.2.1, C.2.2.2.1, C.2.2.2.2.1⟩ (am_met ok g2 hrun l b h0 Ln xs D aC) (cwV (C := am_cn r'.2.2.2.2.1) r'.2.2.2.2.2.1 C.2.2.2.2.1 (lw_V f1 f2 f3 f4 ok.1) rfl rfl rfl ⟨ok.2.2.1, ok.2.2.2.1⟩ (am_room hR.1 hR.2.1 ok.2.2.2.2.2)) ⟨hP.1, va_recv C.2.2.2.2.2.2.2.2.1 hob (ci := r'.2.2.2.2.1) (q0 := 0) (am_cl_at _ hcj) rfl, hP.2⟩ rfl (by rw [List.length_map]; have e2 : as.length + 1 = r'.2.2.2.2.2.1 + 1 := e2; omega) (hL.1) rfl (lv_room (by rw [am_wd_sum]; exact g1)) hd ⟨by have : cells + kc ≤ R.cells := hR.2.2.1; omega, by have : slots + ks ≤ R.slots := hR.2.2.2; omega⟩) hS (am_cont hK C hL hR g3 g4 hc hE)
    · exact absurd h id
  · exact absurd h id
theorem am_copyW {p : Program} {l : Launch} {e : Env} {R : Room} {s : State} {mid : MethodId} {args : Array Value} {below : List Frame} {meth : Method} {c : Code} {H : Heap} {locs : List Loc} {cells slots : Nat} {Qs : State → Prop} {ls : Array Slot} {rest : List Value} {D : va_G} {tys : List (ClassId × FieldType)} {cc : ByteArray} (hexec : p.tables.exec = Jvm.exec) (hb : c.code = cc) (hml : c.maxLocals = ls.size) {own : String} {index : Nat} (hown : s.vm.findClass own = some mid.cls) (hlink : (Cond.methodLink own index arraycopyName).before args s = true) (hnat : (Cond.native arraycopyName).before args s = true) (hstat : (Cond.static arraycopyName).before args s = true) (hini : (Cond.initialized "java/lang/System").before args s = true)
    (hK : va_K D am_cl tys s) {t0 a0 a : Nat} {c0 : ClassId} {n0 n1 : Nat} {f g : Nat → Int32} (hc0 : H[a0]? = some (vp_cell c0 (n0, .inl f))) (hc1 : H[a]? = some (vp_cell c0 (n1, .inl g))) (ht0 : tys[t0]? = some (c0, .int))
    {sp dp n : Int32} (h1 : ¬ sp < 0) (h2 : ¬ dp < 0) (h3 : ¬ n < 0) (h4 : sp.toNatClampNeg + n.toNatClampNeg ≤ n0) (h5 : dp.toNatClampNeg + n.toNatClampNeg ≤ n1)
    (hframes : 1 ≤ R.frames) (hlocals : (rest.map fun v => v.category).sum + (nativeFrameWords "java/lang/System" "arraycopy" 5 + 11) ≤ R.locals) (hdg : decode cc pc = .ok (.invokestatic index, 3))
    (kk : ∀ (H1 : Heap) (L : List Loc), H1[a]? = some (vp_cell c0 (n1, .inl (va_cpy f g sp.toNatClampNeg dp.toNatClampNeg n.toNatClampNeg))) → H1.size = H.size → (∀ q, q ≠ a → H1[q]? = H[q]?) → (∀ q ∈ L, q.base = a) → W p l e R s mid args below meth c H1 (locs ++ L) cells slots Qs (F0 mid (pc + 3) ls rest)) : W p l e R s mid args below meth c H locs cells slots Qs (F0 mid pc ls (.int n :: .int dp :: .ref a :: .int sp :: .ref a0 :: rest)) := by
  have nn : ∀ z : Int32, ¬ z < 0 → z.toInt = (z.toNatClampNeg : Int) := by
    intro z hz
    have hz0 : (0 : Int) ≤ z.toInt := by
      have := Int32.not_lt.mp hz
      simpa using Int32.le_iff_toInt_le.mp this
    show z.toInt = ((z.toInt.toNat : Nat) : Int)
    omega
  intro T hT X
  obtain ⟨-, k0, hk0, cm0, hkk0⟩ := (hK.2 t0 _ ht0).1 n0 (fun j => .int (f j))
  obtain ⟨-, k1, hk1, cm1, hkk1⟩ := (hK.2 t0 _ ht0).1 n1 (fun j => .int (g j))
  obtain ⟨vm', X', step⟩ := X.arraycopy hexec hown hlink hnat hstat hini (src := a0) (dst := a) (cs := vp_cell c0 (n0, .inl f)) (cd := vp_cell c0 (n1, .inl g)) (srcPos := sp) (destPos := dp) (n := n) (by rw [hT]; exact hc0) (by rw [hT]; exact hc1)
    (fun _ h => by cases h) (fun _ h => by cases h) (fun h => by cases h) (fun h => by cases h) hk0 hk1 hkk0 hkk1 (by simp [refKind]) h1 h2 h3
    (by rw [nn sp h1, nn n h3]; show ¬ _ > ((arrV c0 n0 (fun j => .int (f j))).slots.size : Int); rw [arrV_size]; omega)
    (by rw [nn dp h2, nn n h3]; show ¬ _ > ((arrV c0 n1 (fun j => .int (g j))).slots.size : Int); rw [arrV_size]; omega)
    (fun vm₁ _ i hi => by
      have e : (vp_cell c0 (n0, .inl f)).slots.getD (sp.toNatClampNeg + i) .null = .int (f (sp.toNatClampNeg + i)) := by
        show (arrV c0 n0 (fun j => .int (f j))).slots.getD _ _ = _
        rw [Array.getD_eq_getD_getElem?, arrV_read _ _ (by omega)]
        rfl
      refine ⟨?_, ?_⟩
      · rw [e]
        rfl
      · rw [e]
        exact trivial)
    (g := F0 mid pc ls (.int n :: .int dp :: .ref a :: .int sp :: .ref a0 :: rest)) rfl (by rw [hml]) (rest := rest) rfl (by rw [hb]; exact hdg) hframes (by show 2 * 0 + _ + _ ≤ _; omega)
  have e1 : copied (vp_cell c0 (n0, .inl f)) (vp_cell c0 (n1, .inl g)) sp dp n = vp_cell c0 (n1, .inl (va_cpy f g sp.toNatClampNeg dp.toNatClampNeg n.toNatClampNeg)) := va_copied (fun z => .int z) c0 c0 f g h4
  rw [e1] at X' step
  have hl : a < H.size := (Array.getElem?_eq_some_iff.mp hc1).1
  have hheap : ((T.setVm vm').setCell a (vp_cell c0 (n1, .inl (va_cpy f g sp.toNatClampNeg dp.toNatClampNeg n.toNatClampNeg)))).heap = H.setIfInBounds a (vp_cell c0 (n1, .inl (va_cpy f g sp.toNatClampNeg dp.toNatClampNeg n.toNatClampNeg))) := by rw [← hT]; rfl
  obtain ⟨t, a1, b1⟩ := kk _ _ (show (H.setIfInBounds a _)[a]? = some _ by simp [Array.getElem?_setIfInBounds, hl]) (by simp) (fun q hq => by simp [Array.getElem?_setIfInBounds, Ne.symm hq]) (fun q hq => by
      obtain ⟨z, -, hz⟩ := List.mem_map.mp hq
      rw [← hz]) _ hheap X'
  exact ⟨t, step t a1, b1⟩
theorem am_q_ac : Cond.native arraycopyName ∈ lw_all ∧ Cond.static arraycopyName ∈ lw_all ∧ Cond.initialized "java/lang/System" ∈ lw_all := ⟨q790, q789, q91⟩
theorem so_stat {lf : am_LF} (hlf : ∀ P m, lf P m → P m) {idx : Nat} (hci : r.2.2.2.2.1 < 13) (hd : decode r.2.1 pc = .ok (.invokestatic idx, 3)) (hn : nx = pc + 3) (h : ao_stat lf am_Rn r.2.2.2.2.1 idx nx B al st m K) (hK : am_KR r K Q) : am_Run B r pc al st m Q := by
  unfold ao_stat at h
  split at h
  · rename_i r' hl
    split at h
    · rename_i as rest hargs
      obtain ⟨d, kc, ks, Q', rfl, g1, g2, g3, g4, hrun, hc⟩ := am_call_e hlf h
      obtain ⟨f1, f2, f3, ok⟩ := am_ml_ok _ hci _ (am_lk_mem hl)
      obtain ⟨fr, e1, e2, e3⟩ := am_args_e hargs
      rw [List.append_nil] at e1
      subst e1
      intro p l e R s mid args below meth c H locs cells slots Qs ls b h0 Ln xs D aC C hH hS hL hR hE
      subst hn
      have hP := am_pre C hH hS as
      have hstk : st.map (am_rv (am_ad b h0)) = (as.map (am_rv (am_ad b h0))).reverse ++ rest.map (am_rv (am_ad b h0)) := by
        rw [e3]; simp
      rw [hstk]
      exact am_after (va_runS (As := as.map (am_rv (am_ad b h0))) (rest := rest.map (am_rv (am_ad b h0))) ⟨C.1, C.2.1, C.2.2.1, C.2.2.2.1, C.2.2.2.2.1⟩ (am_met ok g2 hrun l b h0 Ln xs D aC) (va_cwS r'.2.2.2.2.2.1 C.2.2.2.2.1 (lw_S f1 f2 f3 ok.1) rfl rfl rfl ok.2.2.2.1 (am_room hR.1 hR.2.1 ok.2.2.2.2.2)) hP rfl (by rw [List.length_map]; exact e2) hL.1 rfl (lv_room (by rw [am_wd_sum]; exact g1)) hd ⟨by have : cells + kc ≤ R.cells := hR.2.2.1; omega, by have : slots + ks ≤ R.slots := hR.2.2.2; omega⟩) hS (am_cont hK C hL hR g3 g4 hc hE)
    · exact absurd h id
  · rename_i r' hl
    split at h
    · rename_i n dp a sp a0 rest d kc ks
      obtain ⟨g, c1, c2, c3, c4, c5, h⟩ := am_gd_e h
      simp only [Bool.and_eq_true] at g
      obtain ⟨g1, g2, g3⟩ := g
      have f1 := am_ml_ok _ hci _ (am_lk_mem hl)
      have t0 := am_isA_e g1
      have t1 := am_isA_e g2
      intro p l e R s mid args below meth c H locs cells slots Qs ls b h0 Ln xs D aC C hH hS hL hR hE
      subst hn
      have hts := C.2.2.2.2.1
      obtain ⟨hpos, hle⟩ := hH.arrIn t1 (by decide)
      have r1 : d + 1 ≤ R.frames := hR.1
      have r2 : 40 * (d + 1) ≤ R.locals := hR.2.1
      have hw : am_wd rest ≤ 8 := Nat.le_of_ble_eq_true g3
      have hnf : nativeFrameWords "java/lang/System" "arraycopy" 5 + 11 ≤ 32 := by decide +kernel
      refine am_copyW (tys := am_tys aC) (D := D) C.1 C.2.1 (by rw [C.2.2.1, hL.1]) C.2.2.2.1 (hts _ f1) (hts _ am_q_ac.1) (hts _ am_q_ac.2.1) (hts _ am_q_ac.2.2) C.2.2.2.2.2.2.2.2.1 (hH.arr t0 (by decide) 0 _ rfl) (hH.arr t1 (by decide) 0 _ rfl) (am_tys_at (t := 0) (by decide)) c1 c2 c3 c4 c5 (by omega) (by rw [am_wd_sum]; omega) hd fun H1 L e1 z oq hLb => ?_
      refine hK _ _ _ _ _ h p l e R s mid args below meth c H1 _ cells slots Qs ls b h0 Ln xs D aC C (hH.set (m' := (am_copy m.1 a0 a sp.toNatClampNeg dp.toNatClampNeg n.toNatClampNeg, m.2)) hpos rfl (fun c hc => ⟨am_copy_o hc, rfl, rfl⟩) ?_ z oq) ⟨by rw [z]; exact hS.1, fun q g1 g2 => by rw [oq q (fun e => g2 (by rw [e]; exact am_ad_ge hpos))]; exact hS.2.1 q g1 g2, fun q hq => by
        rcases List.mem_append.mp hq with h | h
        · exact hS.2.2 q h
        · rw [hLb q h]; exact am_ad_ge hpos⟩ hL hR hE
      rw [am_cell_arr (m := (am_copy m.1 a0 a sp.toNatClampNeg dp.toNatClampNeg n.toNatClampNeg, m.2)) t1]
      show H1[am_ad b h0 a]? = some (vp_cell _ (_, .inl (am_copy m.1 a0 a sp.toNatClampNeg dp.toNatClampNeg n.toNatClampNeg a)))
      have e2 : am_copy m.1 a0 a sp.toNatClampNeg dp.toNatClampNeg n.toNatClampNeg a = va_cpy (m.1 a0) (m.1 a) sp.toNatClampNeg dp.toNatClampNeg n.toNatClampNeg := by unfold am_copy am_upC; rw [if_pos rfl]
      rw [e2]
      exact e1
    · exact absurd h id
  · rename_i r' hl
    split at h
    · rename_i y x rest d kc ks
      obtain ⟨g, h⟩ := am_gd_e h
      obtain ⟨f1, f2, f3, f4⟩ := am_ml_ok _ hci _ (am_lk_mem hl)
      refine so_step (st' := .int (if y < x then y else x) :: rest) ?_ (hK _ _ _ _ _ h)
      intro p l e R s mid args below meth c H locs cells slots Qs ls b h0 Ln xs D aC C hH hS hL hR kk
      subst hn
      have r1 : d + 1 ≤ R.frames := hR.1
      have r2 : 40 * (d + 1) ≤ R.locals := hR.2.1
      have hw : am_wd rest ≤ 8 := Nat.le_of_ble_eq_true g
      have hts := C.2.2.2.2.1
      exact va_mmin C.1 C.2.1 (by rw [C.2.2.1, hL.1]) C.2.2.2.1 (hts _ f1) (hts _ f2) (hts _ f3) (hts _ f4) (by omega) (by rw [am_wd_sum]; omega) (by have := hR.2.2.1; omega) (by have := hR.2.2.2; omega) hd kk
    · exact absurd h id
  · rename_i r' hl
    split at h
    · rename_i y x rest d kc ks
      obtain ⟨g, h⟩ := am_gd_e h
      obtain ⟨f1, f2, f3, f4⟩ := am_ml_ok _ hci _ (am_lk_mem hl)
      refine so_step (st' := .long (if y < x then x else y) :: rest) ?_ (hK _ _ _ _ _ h)
      intro p l e R s mid args below meth c H locs cells slots Qs ls b h0 Ln xs D aC C hH hS hL hR kk
      subst hn
      have r1 : d + 1 ≤ R.frames := hR.1
      have r2 : 40 * (d + 1) ≤ R.locals := hR.2.1
      have hw : am_wd rest ≤ 8 := Nat.le_of_ble_eq_true g
      have hts := C.2.2.2.2.1
      exact va_mmax_long C.1 C.2.1 (by rw [C.2.2.1, hL.1]) C.2.2.2.1 (hts _ f1) (hts _ f2) (hts _ f3) (hts _ f4) (by omega) (by rw [am_wd_sum]; omega) (by have := hR.2.2.1; omega) (by have := hR.2.2.2; omega) hd kk
    · exact absurd h id
  · rename_i r' hl
    split at h
    · rename_i y x rest d kc ks
      obtain ⟨g, h⟩ := am_gd_e h
      obtain ⟨f1, f2, f3, f4⟩ := am_ml_ok _ hci _ (am_lk_mem hl)
      refine so_step (st' := .long (if y < x then y else x) :: rest) ?_ (hK _ _ _ _ _ h)
      intro p l e R s mid args below meth c H locs cells slots Qs ls b h0 Ln xs D aC C hH hS hL hR kk
      subst hn
      have r1 : d + 1 ≤ R.frames := hR.1
      have r2 : 40 * (d + 1) ≤ R.locals := hR.2.1
      have hw : am_wd rest ≤ 8 := Nat.le_of_ble_eq_true g
      have hts := C.2.2.2.2.1
      exact va_mmin_long C.1 C.2.1 (by rw [C.2.2.1, hL.1]) C.2.2.2.1 (hts _ f1) (hts _ f2) (hts _ f3) (hts _ f4) (by omega) (by rw [am_wd_sum]; omega) (by have := hR.2.2.1; omega) (by have := hR.2.2.2; omega) hd kk
    · exact absurd h id
  · exact absurd h id
theorem so_spec {lf : am_LF} (hlf : ∀ P m, lf P m → P m) {idx : Nat} (hci : r.2.2.2.2.1 < 13) (hd : decode r.2.1 pc = .ok (.invokespecial idx, 3)) (hn : nx = pc + 3) (h : ao_spec lf am_Rn r.2.2.2.2.1 idx nx B al st m K) (hK : am_KR r K Q) : am_Run B r pc al st m Q := by
  unfold ao_spec at h
  split at h
  · rename_i r' hl
    split at h
    · rename_i a as rest hargs
      obtain ⟨d, kc, ks, Q', rfl, g1, g2, g3, g4, hrun, hc⟩ := am_call_e hlf h
      obtain ⟨f1, f2, f3, f4, ok⟩ := am_ml_ok _ hci _ (am_lk_mem hl)
      obtain ⟨fr, e1, e2, e3⟩ := am_args_e hargs
      rw [List.append_nil] at e1
      subst e1
      intro p l e R s mid args below meth c H locs cells slots Qs ls b h0 Ln xs D aC C hH hS hL hR hE
      subst hn
      have hP := am_pre C hH hS (.ref a :: as)
      have hstk : st.map (am_rv (am_ad b h0)) = (as.map (am_rv (am_ad b h0))).reverse ++ .ref (am_ad b h0 a) :: rest.map (am_rv (am_ad b h0)) := by
        rw [e3]; simp [am_rv]
      rw [hstk]
      have hnone : r'.2.2.2.1 = none := am_init_void hci (Or.inl rfl) hl
      have hM := am_met ok g2 hrun l b h0 Ln xs D aC
      rw [hnone] at hM
      have hcode := ok.1
      rw [hnone] at hcode
      exact am_after (va_runI (As := as.map (am_rv (am_ad b h0))) (rest := rest.map (am_rv (am_ad b h0))) ⟨C.1, C.2.1, C.2.2.1, C.2.2.2.1, C.2.2.2.2.1⟩ hM (cwI r'.2.2.2.2.2.1 C.2.2.2.2.1 (lw_meth hcode) rfl rfl rfl (C.2.2.2.2.1 _ f3) (C.2.2.2.2.1 _ f1) (C.2.2.2.2.1 _ f2) f4 ok.2.2.2.1 (am_room hR.1 hR.2.1 ok.2.2.2.2.2)) hP rfl (by rw [List.length_map]; have e2 : as.length + 1 = r'.2.2.2.2.2.1 + 1 := e2; omega) hL.1 rfl (lv_room (by rw [am_wd_sum]; exact g1)) hd ⟨by have : cells + kc ≤ R.cells := hR.2.2.1; omega, by have : slots + ks ≤ R.slots := hR.2.2.2; omega⟩) hS (am_cont hK C hL hR g3 g4 hc hE)
    · exact absurd h id
  · rename_i r' hl
    split at h
    · rename_i a as rest hargs
      obtain ⟨d, kc, ks, Q', rfl, g1, g2, g3, g4, hrun, hc⟩ := am_call_e hlf h
      obtain ⟨f1, f2, f3, f4, ok⟩ := am_ml_ok _ hci _ (am_lk_mem hl)
      obtain ⟨fr, e1, e2, e3⟩ := am_args_e hargs
      rw [List.append_nil] at e1
      subst e1
      intro p l e R s mid args below meth c H locs cells slots Qs ls b h0 Ln xs D aC C hH hS hL hR hE
      subst hn
      have hP := am_pre C hH hS (.ref a :: as)
      have hstk : st.map (am_rv (am_ad b h0)) = (as.map (am_rv (am_ad b h0))).reverse ++ .ref (am_ad b h0 a) :: rest.map (am_rv (am_ad b h0)) := by
        rw [e3]; simp [am_rv]
      rw [hstk]
      have hnone : r'.2.2.2.1 = none := am_init_void hci (Or.inr rfl) hl
      have hM := am_met ok g2 hrun l b h0 Ln xs D aC
      rw [hnone] at hM
      have hcode := ok.1
      rw [hnone] at hcode
      have hNW := C.2.2.2.2.2.2.2.2.2.1
      exact am_after (va_runIN (As := as.map (am_rv (am_ad b h0))) (rest := rest.map (am_rv (am_ad b h0))) ⟨C.1, C.2.1, C.2.2.1, C.2.2.2.1, C.2.2.2.2.1⟩ hM ⟨va_cnB r'.2.2.2.2.2.1 C.2.2.2.2.1 (lw_meth hcode) rfl rfl rfl (hNW.1 _ hci _ (am_lk_mem hl) rfl) (C.2.2.2.2.1 _ f3) ok.2.2.2.1 (am_room hR.1 hR.2.1 ok.2.2.2.2.2), f4, C.2.2.2.2.1 _ f2⟩ hP rfl (by rw [List.length_map]; have e2 : as.length + 1 = r'.2.2.2.2.2.1 + 1 := e2; omega) hL.1 rfl (lv_room (by rw [am_wd_sum]; exact g1)) hd ⟨by have : cells + kc ≤ R.cells := hR.2.2.1; omega, by have : slots + ks ≤ R.slots := hR.2.2.2; omega⟩) hS (am_cont hK C hL hR g3 g4 hc hE)
    · exact absurd h id
  · rename_i r' hl
    split at h
    · rename_i a rest d kc ks
      obtain ⟨g, h⟩ := am_gd_e h
      have f1 := am_ml_ok _ hci _ (am_lk_mem hl)
      refine so_step (st' := rest) ?_ (hK _ _ _ _ _ h)
      intro p l e R s mid args below meth c H locs cells slots Qs ls b h0 Ln xs D aC C hH hS hL hR kk
      subst hn
      have r1 : d + 1 ≤ R.frames := hR.1
      have r2 : 40 * (d + 1) ≤ R.locals := hR.2.1
      have hw : am_wd rest ≤ 8 := Nat.le_of_ble_eq_true g
      have hts := C.2.2.2.2.1
      refine W.objInit C.1 C.2.1 C.2.2.2.1 (hts _ f1) (hts _ am_q_oi.1) (hts _ am_q_oi.2) rfl (by rw [C.2.2.1]; exact hL.1) rfl hd (by omega) (by show 2 * 0 + _ + 12 ≤ _; rw [am_wd_sum]; omega) kk
    · exact absurd h id
  · exact absurd h id
end SM
