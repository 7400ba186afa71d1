/-! WHAT A RUN OF THE ABSTRACT MACHINE SAYS OF THE JVM: the heap holds the abstract memory; am_Run; am_vc -/
def am_ad (b h0 : Nat) : Nat → Nat
  | 0 => b
  | k + 1 => h0 + k
def am_rv (ad : Nat → Nat) (v : Value) : Value := match v with
  | .ref a => .ref (ad a)
  | v => v
def am_tys (aC : Nat → ClassId) : List (ClassId × FieldType) := [(aC 0, .int), (aC 1, .byte), (aC 2, .short), (aC 3, .long), (aC 4, .boolean), (aC 5, .object RX9), (aC 6, .object RX4)]
def am_fv (ad : Nat → Nat) (m : am_Mem) (cj a k : Nat) : Value := match am_ty cj k with
  | .int => .int (m.1 a k)
  | _ => va_rf ((m.2.2.1 a k).map ad)
def am_cnt (ad : Nat → Nat) (m : am_Mem) (t a : Nat) : (Nat → Int32) ⊕ (Nat → Int64) ⊕ (Nat → UInt32) ⊕ (Nat → UInt64) ⊕ (Nat → Option Nat) := match t with
  | 3 => .inr (.inl (m.2.1 a))
  | 5 => .inr (.inr (.inr (.inr (fun j => (m.2.2.1 a j).map ad))))
  | 6 => .inr (.inr (.inr (.inr (fun j => (m.2.2.1 a j).map ad))))
  | _ => .inl (m.1 a)
def am_cell (ad : Nat → Nat) (aC : Nat → ClassId) (m : am_Mem) (a : Nat) : va_E := match m.2.2.2.1 a with
  | .inl cj => .inr (cj, (List.range (am_nf cj)).map (am_fv ad m cj a))
  | .inr (t, n) => .inl (aC t, n, am_cnt ad m t a)
/-- kinds of cells are what they can be; the script is cell 0 -/
def am_ok (Ln : Nat) (m : am_Mem) : Prop := (∀ a, m.2.2.2.2 < a → m.2.2.2.1 a = .inr (99, 0)) ∧ m.2.2.2.1 0 = .inr (7, Ln) ∧ (∀ a cj, m.2.2.2.1 a = .inl cj → cj < 10) ∧ (∀ a t n, 0 < a → a ≤ m.2.2.2.2 → m.2.2.2.1 a = .inr (t, n) → t < 7)
/-- the heap H holds the memory m -/
def am_Hd (b h0 Ln : Nat) (xs : Nat → Int32) (D : va_G) (aC : Nat → ClassId) (m : am_Mem) (H : Heap) : Prop :=
  (∀ a, 0 < a → a ≤ m.2.2.2.2 → va_at D am_cl (am_ad b h0 a, am_cell (am_ad b h0) aC m a) H) ∧ H.size = h0 + m.2.2.2.2 ∧ am_ok Ln m ∧ m.1 0 = xs
def am_NW (s : State) : Prop := (∀ (c : Nat), c < 13 → ∀ e ∈ am_ml c, e.2.1 = 3 → va_Nw (.methodLinkNest (am_cn c) e.1 e.2.2.1 "ApplyFree") s) ∧ va_AO RX9 s ∧ va_AO RX4 s
/-- what is known of a method's frame, and stays -/
def am_Cx (p : Program) (s : State) (mid : MethodId) (args : Array Value) (meth : Method) (c : Code) (r : am_MR) (b h0 Ln : Nat) (xs : Nat → Int32) (D : va_G) (aC : Nat → ClassId) : Prop :=
  p.tables.exec = Jvm.exec ∧ c.code = r.2.1 ∧ c.maxLocals = r.2.2.1 ∧ s.vm.findClass (am_cn r.2.2.2.2.1) = some mid.cls ∧ (∀ w ∈ lw_all, w.before args s = true) ∧ meth.sig.returnType = r.2.2.2.1 ∧ meth.locks = false ∧ meth.name = r.1.name ∧
  va_K D am_cl (am_tys aC) s ∧ am_NW s ∧ va_X b Ln xs s s.heap ∧ b < h0 ∧ h0 ≤ s.heap.size
/-- the locals hold what is listed -/
def am_Lv (ad : Nat → Nat) (ls : Array Slot) (n : Nat) (al : am_AL) : Prop := ls.size = n ∧ lv_wf ls ∧ al.length = n ∧ ∀ i v, am_get al i = some v → ls[i]? = some (.val (am_rv ad v))
/-- a return that gives v -/
def am_rtn (r : am_MR) (pc : Nat) (v : Option Value) : Prop := match v with
  | none => r.2.2.2.1 = none ∧ decode r.2.1 pc = .ok (.return_, 1)
  | some (.int x) => decode r.2.1 pc = .ok (.ireturn, 1) ∧ (r.2.2.2.1 = some .int ∨ (r.2.2.2.1 = some .boolean ∧ (x = 0 ∨ x = 1)))
  | some (.long _) => r.2.2.2.1 = some .long ∧ decode r.2.1 pc = .ok (.lreturn, 1)
  | some (.ref _) => (∃ n, r.2.2.2.1 = some (.object n)) ∧ decode r.2.1 pc = .ok (.areturn, 1)
  | _ => False
def am_Rm (B : am_Bd) (R : Room) (cells slots : Nat) : Prop := B.1 ≤ R.frames ∧ 40 * B.1 ≤ R.locals ∧ cells + B.2.1 ≤ R.cells ∧ slots + B.2.2 ≤ R.slots
/-- from this frame of the method r, with the memory m, the machine comes to a return with Q -/
def am_Run (B : am_Bd) (r : am_MR) (pc : Nat) (al : am_AL) (st : am_ST) (m : am_Mem) (Q : am_Q) : Prop :=
  ∀ (p : Program) (l : Launch) (e : Env) (R : Room) (s : State) (mid : MethodId) (args : Array Value) (below : List Frame) (meth : Method) (c : Code) (H : Heap) (locs : List Loc) (cells slots : Nat) (Qs : State → Prop) (ls : Array Slot) (b h0 Ln : Nat) (xs : Nat → Int32) (D : va_G) (aC : Nat → ClassId),
    am_Cx p s mid args meth c r b h0 Ln xs D aC → am_Hd b h0 Ln xs D aC m H → va_S (fun q => h0 ≤ q) s.heap H locs → am_Lv (am_ad b h0) ls r.2.2.1 al → am_Rm B R cells slots →
    (∀ (v : Option Value) (m' : am_Mem) (H' : Heap) (locs' : List Loc) (pc' : Nat) (ls' : Array Slot), Q v m' → am_Hd b h0 Ln xs D aC m' H' → va_S (fun q => h0 ≤ q) s.heap H' locs' → am_rtn r pc' v →
      W p l e R s mid args below meth c H' locs' (cells + B.2.1) (slots + B.2.2) Qs (F0 mid pc' ls' ((v.map (am_rv (am_ad b h0))).toList))) →
    W p l e R s mid args below meth c H locs cells slots Qs (F0 mid pc ls (st.map (am_rv (am_ad b h0))))
/-- a run from the entry -/
def am_Rn : am_RN := fun B r args m Q => am_Run B r 0 (am_ent r.2.2.1 args) [] m Q
abbrev am_RunI (B : am_Bd) (r : am_MR) (args : List Value) (m : am_Mem) (K : Int32 → am_Mem → Prop) : Prop := am_Rn B r args m (am_Qi K)
abbrev am_RunL (B : am_Bd) (r : am_MR) (args : List Value) (m : am_Mem) (K : Int64 → am_Mem → Prop) : Prop := am_Rn B r args m (am_Ql K)
abbrev am_RunR (B : am_Bd) (r : am_MR) (args : List Value) (m : am_Mem) (K : Nat → am_Mem → Prop) : Prop := am_Rn B r args m (am_Qr K)
abbrev am_RunV (B : am_Bd) (r : am_MR) (args : List Value) (m : am_Mem) (K : am_Mem → Prop) : Prop := am_Rn B r args m (am_Qv K)
/-- verification conditions of k instructions; a jump to a cut point ends them, with the locals that are alive there -/
def am_vc (lf : am_LF) : Nat → List (Nat × List Bool) → am_MR → am_Bd → Nat → am_AL → am_ST → am_Mem → am_Q → Prop
  | 0, _, r, B, pc, al, st, m, Q => am_Run B r pc al st m Q
  | k + 1, ct, r, B, pc, al, st, m, Q => match am_at r.2.2.2.2.2.2.2 pc with
    | none => False
    | some (i, nx, ts) => am_sem lf am_Rn r i nx ts B al st m (fun B' pc' al' st' m' => match am_cut ct pc' with
      | none => am_vc lf k ct r B' pc' al' st' m' Q
      | some bs => am_Run B' r pc' (am_mask bs al') st' m' Q) Q
/-! basic rows -/
theorem am_ad_inj {b h0 a c : Nat} (ha : 0 < a) (hc : 0 < c) (h : am_ad b h0 a = am_ad b h0 c) : a = c := by
  obtain ⟨x, rfl⟩ : ∃ x, a = x + 1 := ⟨a - 1, by omega⟩
  obtain ⟨y, rfl⟩ : ∃ y, c = y + 1 := ⟨c - 1, by omega⟩
  have h : h0 + x = h0 + y := h
  omega
theorem am_ad_ge {b h0 a : Nat} (ha : 0 < a) : h0 ≤ am_ad b h0 a := by
  obtain ⟨x, rfl⟩ : ∃ x, a = x + 1 := ⟨a - 1, by omega⟩
  exact Nat.le_add_right _ _
theorem am_isO_e {t : Nat ⊕ (Nat × Nat)} {c : Nat} (h : am_isO t c = true) : t = .inl c := by
  cases t with
  | inl j => rw [Nat.eq_of_beq_eq_true h]
  | inr p => cases h
theorem am_isA_e {t : Nat ⊕ (Nat × Nat)} {k : Nat} (h : am_isA t k = true) : t = .inr (k, am_len t) := by
  cases t with
  | inl j => cases h
  | inr p =>
    obtain ⟨j, n⟩ := p
    have e : j = k := Nat.eq_of_beq_eq_true h
    rw [e]
    rfl
section HD
variable {b h0 Ln : Nat} {xs : Nat → Int32} {D : va_G} {aC : Nat → ClassId} {m m' : am_Mem} {H H1 : Heap}
theorem am_Hd.objIn (h : am_Hd b h0 Ln xs D aC m H) {a cj : Nat} (ht : m.2.2.2.1 a = .inl cj) : 0 < a ∧ a ≤ m.2.2.2.2 ∧ cj < 10 := by
  obtain ⟨-, -, ⟨k1, k2, k3, -⟩, -⟩ := h
  refine ⟨Nat.pos_of_ne_zero fun e => ?_, Nat.not_lt.mp fun q => ?_, k3 _ _ ht⟩
  · rw [e, k2] at ht; cases ht
  · rw [k1 a q] at ht; cases ht
theorem am_Hd.obj (h : am_Hd b h0 Ln xs D aC m H) {a cj : Nat} (ht : m.2.2.2.1 a = .inl cj) : va_P D am_cl [(am_ad b h0 a, .inr (cj, (List.range (am_nf cj)).map (am_fv (am_ad b h0) m cj a)))] H := by
  obtain ⟨h1, h2, -⟩ := h.objIn ht
  intro k q hq
  have hk : k < 1 := (List.getElem?_eq_some_iff.mp hq).1
  rw [show k = 0 by omega] at hq
  cases hq
  have := h.1 a h1 h2
  unfold am_cell at this
  rw [ht] at this
  exact this
theorem am_Hd.arrIn (h : am_Hd b h0 Ln xs D aC m H) {a t n : Nat} (ht : m.2.2.2.1 a = .inr (t, n)) (h7 : t < 7) : 0 < a ∧ a ≤ m.2.2.2.2 := by
  obtain ⟨-, -, ⟨k1, k2, k3, -⟩, -⟩ := h
  refine ⟨Nat.pos_of_ne_zero fun e => ?_, Nat.not_lt.mp fun q => ?_⟩
  · rw [e, k2] at ht
    cases ht
    omega
  · rw [k1 a q] at ht
    cases ht
    omega
theorem am_Hd.arr (h : am_Hd b h0 Ln xs D aC m H) {a t n : Nat} (ht : m.2.2.2.1 a = .inr (t, n)) (h7 : t < 7) : va_P D am_cl [(am_ad b h0 a, .inl (aC t, n, am_cnt (am_ad b h0) m t a))] H := by
  obtain ⟨h1, h2⟩ := h.arrIn ht h7
  intro k q hq
  have hk : k < 1 := (List.getElem?_eq_some_iff.mp hq).1
  rw [show k = 0 by omega] at hq
  cases hq
  have := h.1 a h1 h2
  unfold am_cell at this
  rw [ht] at this
  exact this
/-- one cell is written -/
theorem am_Hd.set (h : am_Hd b h0 Ln xs D aC m H) {a : Nat} (ha : 0 < a) (hk : m'.2.2.2 = m.2.2.2) (ho : ∀ c, c ≠ a → m'.1 c = m.1 c ∧ m'.2.1 c = m.2.1 c ∧ m'.2.2.1 c = m.2.2.1 c)
    (hc : va_at D am_cl (am_ad b h0 a, am_cell (am_ad b h0) aC m' a) H1) (hz : H1.size = H.size) (oq : ∀ q : Nat, q ≠ am_ad b h0 a → H1[q]? = H[q]?) : am_Hd b h0 Ln xs D aC m' H1 := by
  obtain ⟨h1, h2, h3, h4⟩ := h
  refine ⟨fun c g1 g2 => ?_, by rw [hz, h2, hk], by unfold am_ok; rw [hk]; exact h3, by rw [(ho 0 (by omega)).1]; exact h4⟩
  by_cases e : c = a
  · rw [e]; exact hc
  · have hcell : am_cell (am_ad b h0) aC m' c = am_cell (am_ad b h0) aC m c := by
      obtain ⟨o1, o2, o3⟩ := ho c e
      unfold am_cell am_fv am_cnt
      rw [hk, o1, o2, o3]
    rw [hcell]
    exact (h1 c g1 (by rw [← hk]; exact g2)).kept (oq _ fun q => e (am_ad_inj g1 ha q))
/-- a cell is added -/
theorem am_Hd.add (h : am_Hd b h0 Ln xs D aC m H) {t : Nat ⊕ (Nat × Nat)} (ht : (∃ cj, t = .inl cj ∧ cj < 10) ∨ ∃ k n, t = .inr (k, n) ∧ k < 7)
    (hc : va_at D am_cl (h0 + m.2.2.2.2, am_cell (am_ad b h0) aC (am_add m t) (m.2.2.2.2 + 1)) H1) (hz : H1.size = H.size + 1) (oq : ∀ q : Nat, q < H.size → H1[q]? = H[q]?) : am_Hd b h0 Ln xs D aC (am_add m t) H1 := by
  obtain ⟨h1, h2, ⟨k1, k2, k3, k4⟩, h4⟩ := h
  have old : ∀ c, c ≠ m.2.2.2.2 + 1 → (am_add m t).2.2.2.1 c = m.2.2.2.1 c := fun c hc => by
    show am_upC _ _ _ c = _
    unfold am_upC
    rw [if_neg hc]
  have new : (am_add m t).2.2.2.1 (m.2.2.2.2 + 1) = t := by
    show am_upC _ _ _ _ = _
    unfold am_upC
    rw [if_pos rfl]
  refine ⟨fun c g1 g2 => ?_, by rw [hz, h2]; rfl, ⟨fun a g => ?_, ?_, fun a cj g => ?_, fun a k n g1 g2 g3 => ?_⟩, ?_⟩
  · by_cases e : c = m.2.2.2.2 + 1
    · rw [e]; exact hc
    · have g2 : c ≤ m.2.2.2.2 + 1 := g2
      have hcell : am_cell (am_ad b h0) aC (am_add m t) c = am_cell (am_ad b h0) aC m c := by
        unfold am_cell am_fv am_cnt
        rw [old c e]
        simp only [am_add, am_upC, if_neg e]
      rw [hcell]
      have := h1 c g1 (by omega)
      exact this.kept (oq _ this.lt)
  · have g : m.2.2.2.2 + 1 < a := g
    rw [old a (by omega)]
    exact k1 a (by omega)
  · rw [old 0 (by omega)]
    exact k2
  · by_cases e : a = m.2.2.2.2 + 1
    · rw [e, new] at g
      rcases ht with ⟨c, e1, e2⟩ | ⟨k, n, e1, e2⟩
      · rw [e1] at g; cases g; exact e2
      · rw [e1] at g; cases g
    · rw [old a e] at g
      exact k3 a cj g
  · have g2 : a ≤ m.2.2.2.2 + 1 := g2
    by_cases e : a = m.2.2.2.2 + 1
    · rw [e, new] at g3
      rcases ht with ⟨c, e1, e2⟩ | ⟨k, n, e1, e2⟩
      · rw [e1] at g3; cases g3
      · rw [e1] at g3; cases g3; exact e2
    · rw [old a e] at g3
      exact k4 a k n g1 (by omega) g3
  · rw [← h4]
    show am_upC m.1 (m.2.2.2.2 + 1) (fun _ => 0) 0 = m.1 0
    unfold am_upC
    rw [if_neg (by omega)]
end HD
/-! locals -/
theorem am_get_lt : ∀ {al : am_AL} {i : Nat} {v : Value}, am_get al i = some v → i < al.length
  | [], _, _, h => by cases h
  | _ :: _, 0, _, _ => Nat.succ_pos _
  | _ :: t, i + 1, _, h => Nat.succ_lt_succ (am_get_lt (al := t) h)
theorem am_get_set : ∀ {al : am_AL} {i j : Nat} {x : Option Value} {v : Value}, am_get (am_set al i x) j = some v → (j = i ∧ x = some v) ∨ (j ≠ i ∧ am_get al j = some v)
  | [], _, _, _, _, h => by cases h
  | _ :: _, 0, 0, _, _, h => Or.inl ⟨rfl, h⟩
  | _ :: _, 0, j + 1, _, _, h => Or.inr ⟨by omega, h⟩
  | _ :: _, i + 1, 0, _, _, h => Or.inr ⟨by omega, h⟩
  | _ :: t, i + 1, j + 1, x, v, h => by
    rcases am_get_set (al := t) (i := i) (j := j) (x := x) (v := v) h with ⟨h1, h2⟩ | ⟨h1, h2⟩
    · exact Or.inl ⟨by omega, h2⟩
    · exact Or.inr ⟨by omega, h2⟩
theorem am_len_set : ∀ (al : am_AL) (i : Nat) (x : Option Value), (am_set al i x).length = al.length
  | [], _, _ => rfl
  | _ :: _, 0, _ => rfl
  | _ :: t, i + 1, x => congrArg (· + 1) (am_len_set t i x)
theorem am_noL_e {x : Option Value} {v : Value} (h : am_noL x = some v) : x = some v ∧ ¬ v.category = 2 := by
  cases x with
  | none => cases h
  | some w => cases w <;> first | (cases h; done) | (cases h; exact ⟨rfl, by simp [Value.category]⟩)
theorem am_get_nol : ∀ {al : am_AL} {i j : Nat} {v : Value}, am_get (am_nol al i) j = some v → am_get al j = some v ∧ ¬ (j + 1 = i ∧ v.category = 2)
  | [], _, _, _, h => by cases h
  | _ :: _, 0, j, _, h => ⟨h, fun q => by omega⟩
  | _ :: _, 1, 0, _, h => ⟨(am_noL_e h).1, fun q => (am_noL_e h).2 q.2⟩
  | _ :: _, 1, j + 1, _, h => ⟨h, fun q => by omega⟩
  | _ :: _, i + 2, 0, _, h => ⟨h, fun q => by omega⟩
  | _ :: t, i + 2, j + 1, v, h => by
    obtain ⟨h1, h2⟩ := am_get_nol (al := t) (i := i + 1) (j := j) (v := v) h
    exact ⟨h1, fun q => h2 ⟨by omega, q.2⟩⟩
theorem am_len_nol : ∀ (al : am_AL) (i : Nat), (am_nol al i).length = al.length
  | [], _ => rfl
  | _ :: _, 0 => rfl
  | _ :: _, 1 => rfl
  | _ :: t, i + 2 => congrArg (· + 1) (am_len_nol t (i + 1))
theorem am_rv_cat (ad : Nat → Nat) (v : Value) : (am_rv ad v).category = v.category := by cases v <;> rfl
/-- the listed locals, as the kit has them -/
def am_lst (ad : Nat → Nat) (al : am_AL) : List (Nat × Value) := (List.range al.length).filterMap (fun i => (am_get al i).map (fun v => (i, am_rv ad v)))
theorem am_lst_mem {ad : Nat → Nat} {al : am_AL} {q : Nat × Value} : q ∈ am_lst ad al ↔ ∃ v, am_get al q.1 = some v ∧ q.2 = am_rv ad v := by
  unfold am_lst
  rw [List.mem_filterMap]
  constructor
  · rintro ⟨i, -, hi⟩
    cases hg : am_get al i with
    | none => rw [hg] at hi; cases hi
    | some v =>
      rw [hg] at hi
      cases hi
      exact ⟨v, hg, rfl⟩
  · rintro ⟨v, h1, h2⟩
    refine ⟨q.1, List.mem_range.mpr (am_get_lt h1), ?_⟩
    rw [h1]
    show some (q.1, am_rv ad v) = some q
    rw [← h2]
theorem am_Lv.has {ad : Nat → Nat} {ls : Array Slot} {n : Nat} {al : am_AL} (h : am_Lv ad ls n al) : lv_has ls n (am_lst ad al) := by
  refine ⟨h.1, h.2.1, fun q hq => ?_⟩
  obtain ⟨v, h1, h2⟩ := am_lst_mem.mp hq
  rw [h2]
  exact h.2.2.2 _ _ h1
theorem am_Lv.of1 {ad : Nat → Nat} {ls : Array Slot} {n i : Nat} {al : am_AL} {v : Value} (hn : al.length = n) (h : lv_has ls n ((i, am_rv ad v) :: (am_lst ad al).filter (fun q => !(q.1 == i) && !(q.1 + 1 == i && q.2.category == 2)))) : am_Lv ad ls n (am_st1 al i v) := by
  refine ⟨h.1, h.2.1, by unfold am_st1; rw [am_len_set, am_len_nol, hn], fun j w hj => ?_⟩
  rcases am_get_set hj with ⟨h1, h2⟩ | ⟨h1, h2⟩
  · cases h2
    rw [h1]
    exact h.2.2 (i, _) List.mem_cons_self
  · obtain ⟨h3, h4⟩ := am_get_nol h2
    refine h.2.2 (j, am_rv ad w) (List.mem_cons_of_mem _ (List.mem_filter.mpr ⟨am_lst_mem.mpr ⟨w, h3, rfl⟩, ?_⟩))
    simp only [am_rv_cat, Bool.and_eq_true, Bool.not_eq_true', beq_eq_false_iff_ne, ne_eq, Bool.and_eq_false_iff]
    refine ⟨h1, ?_⟩
    by_cases e : j + 1 = i
    · exact Or.inr fun q => h4 ⟨e, q⟩
    · exact Or.inl e
theorem am_Lv.of2 {ad : Nat → Nat} {ls : Array Slot} {n i : Nat} {al : am_AL} {v : Value} (hn : al.length = n) (h : lv_has ls n ((i, am_rv ad v) :: (am_lst ad al).filter (fun q => !(q.1 == i) && (!(q.1 == i + 1) && !(q.1 + 1 == i && q.2.category == 2))))) : am_Lv ad ls n (am_st2 al i v) := by
  refine ⟨h.1, h.2.1, by unfold am_st2; rw [am_len_set, am_len_set, am_len_nol, hn], fun j w hj => ?_⟩
  rcases am_get_set hj with ⟨h1, h2⟩ | ⟨h0, hj⟩
  · cases h2
  rcases am_get_set hj with ⟨h1, h2⟩ | ⟨h1, h2⟩
  · cases h2
    rw [h1]
    exact h.2.2 (i, _) List.mem_cons_self
  · obtain ⟨h3, h4⟩ := am_get_nol h2
    refine h.2.2 (j, am_rv ad w) (List.mem_cons_of_mem _ (List.mem_filter.mpr ⟨am_lst_mem.mpr ⟨w, h3, rfl⟩, ?_⟩))
    simp only [am_rv_cat, Bool.and_eq_true, Bool.not_eq_true', beq_eq_false_iff_ne, ne_eq, Bool.and_eq_false_iff]
    refine ⟨h1, h0, ?_⟩
    by_cases e : j + 1 = i
    · exact Or.inr fun q => h4 ⟨e, q⟩
    · exact Or.inl e
theorem am_get_mask : ∀ {bs : List Bool} {al : am_AL} {i : Nat} {v : Value}, am_get (am_mask bs al) i = some v → am_get al i = some v
  | [], _, _, _, h => by unfold am_mask at h; exact h
  | _ :: _, [], _, _, h => by unfold am_mask at h; exact h
  | b :: bs, x :: t, 0, v, h => by
    have h : cond b x none = some v := h
    cases b with
    | true => exact h
    | false => cases h
  | b :: bs, x :: t, i + 1, v, h => am_get_mask (bs := bs) (al := t) (i := i) h
theorem am_len_mask : ∀ (bs : List Bool) (al : am_AL), (am_mask bs al).length = al.length
  | [], _ => by unfold am_mask; rfl
  | _ :: _, [] => by unfold am_mask; rfl
  | _ :: bs, _ :: t => congrArg (· + 1) (am_len_mask bs t)
theorem am_Lv.mask {ad : Nat → Nat} {ls : Array Slot} {n : Nat} {al : am_AL} (h : am_Lv ad ls n al) (bs : List Bool) : am_Lv ad ls n (am_mask bs al) :=
  ⟨h.1, h.2.1, by rw [am_len_mask]; exact h.2.2.1, fun i v hg => h.2.2.2 i v (am_get_mask hg)⟩
/-- what is not needed of the locals may be there -/
theorem am_Run.mask {B : am_Bd} {r : am_MR} {pc : Nat} {al : am_AL} {st : am_ST} {m : am_Mem} {Q : am_Q} (bs : List Bool) (h : am_Run B r pc (am_mask bs al) st m Q) : am_Run B r pc al st m Q := by
  intro p l e R s mid args below meth c H locs cells slots Qs ls b h0 Ln xs D aC C hH hS hL hR hE
  exact h p l e R s mid args below meth c H locs cells slots Qs ls b h0 Ln xs D aC C hH hS (hL.mask bs) hR hE
theorem am_Run.post {B : am_Bd} {r : am_MR} {pc : Nat} {al : am_AL} {st : am_ST} {m : am_Mem} {Q Q' : am_Q} (h : am_Run B r pc al st m Q) (hq : ∀ v m', Q v m' → Q' v m') : am_Run B r pc al st m Q' := by
  intro p l e R s mid args below meth c H locs cells slots Qs ls b h0 Ln xs D aC C hH hS hL hR hE
  exact h p l e R s mid args below meth c H locs cells slots Qs ls b h0 Ln xs D aC C hH hS hL hR (fun v m' H' locs' pc' ls' q => hE v m' H' locs' pc' ls' (hq v m' q))
theorem am_Run.deep {d d' kc ks : Nat} {r : am_MR} {pc : Nat} {al : am_AL} {st : am_ST} {m : am_Mem} {Q : am_Q} (h : am_Run (d, kc, ks) r pc al st m Q) (hd : d ≤ d') : am_Run (d', kc, ks) r pc al st m Q := by
  intro p l e R s mid args below meth c H locs cells slots Qs ls b h0 Ln xs D aC C hH hS hL hR hE
  obtain ⟨r1, r2, r3, r4⟩ := hR
  have r1 : d' ≤ R.frames := r1
  have r2 : 40 * d' ≤ R.locals := r2
  exact h p l e R s mid args below meth c H locs cells slots Qs ls b h0 Ln xs D aC C hH hS hL ⟨Nat.le_trans hd r1, Nat.le_trans (Nat.mul_le_mul_left 40 hd) r2, r3, r4⟩ hE
