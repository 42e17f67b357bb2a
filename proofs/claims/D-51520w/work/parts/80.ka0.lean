/-! the class's heap: what may change; frozen cells; strings; boxed numbers -/
set_option maxRecDepth 100000
theorem MF.up {G : GL} {d d' : Nat} {y : MI} {pc : Nat} {L st : List Value} {h : AH} {Q : Out → AH → Prop} (hd : d ≤ d') (k : MF G d y pc L st h Q) : MF G d' y pc L st h Q := by
  intro p l e R s m args below meth c H locs cells slots ls hx hl hr hL
  obtain ⟨x1, x2, x3, x4, x5, x6, x7, x8, x9, x10, x11, x12, x13⟩ := hx
  exact k p l e R s m args below meth c H locs cells slots ls ⟨x1, x2, x3, x4, x5, x6, x7, x8, x9, x10, by omega, by omega, x13⟩ hl hr hL
/-- h1 says less than h: cells forgotten or no longer to be written -/
def Less (h1 h : AH) : Prop := h1.2 = h.2 ∧ ∀ a c, h1.1 a = some c → ∃ w, h.1 a = some (c.1, w, c.2.2) ∧ (c.2.1 = true → w = true)
theorem Less.rep {G : GL} {h1 h : AH} {H : Heap} (hl : Less h1 h) (hr : RepH G h H) : RepH G h1 H := by
  obtain ⟨r1, r2, r3, r4, r5, r6⟩ := hr
  refine ⟨by rw [hl.1]; exact r1, r2, r3, fun a c hc => ?_, by rw [hl.1]; exact r5, by rw [hl.1]; exact r6⟩
  obtain ⟨w, hw, hwt⟩ := hl.2 a c hc
  obtain ⟨q1, q2⟩ := r4 a _ hw
  exact ⟨q1, fun h9 => q2 (hwt h9)⟩
theorem MF.less {G : GL} {d : Nat} {y : MI} {pc : Nat} {L st : List Value} {h h1 : AH} {Q : Out → AH → Prop} (hl : Less h1 h) (k : MF G d y pc L st h1 Q) : MF G d y pc L st h Q := by
  intro p l e R s m args below meth c H locs cells slots ls hx hlo hr hL
  exact k p l e R s m args below meth c H locs cells slots ls hx hlo (hl.rep hr) hL
theorem MF.post {G : GL} {d : Nat} {y : MI} {pc : Nat} {L st : List Value} {h : AH} {Q : Out → AH → Prop} (k : MF G d y pc L st h (fun o h => ∃ h1, Less h1 h ∧ Q o h1)) : MF G d y pc L st h Q := by
  intro p l e R s m args below meth c H locs cells slots ls hx hlo hr hL T hT X
  obtain ⟨t, a, b⟩ := k p l e R s m args below meth c H locs cells slots ls hx hlo hr hL T hT X
  obtain ⟨o, h', L', k', n, a1, a2, ⟨h1, hl, hq⟩, a4, a5⟩ := b
  exact ⟨t, a, o, h1, L', k', n, a1, a2, hq, hl.rep a4, a5⟩
/-- cell q is not to be written any more -/
def frz (h : AH) (q : Nat) : AH := (fun a => if a = q then (h.1 q).map fun c => (c.1, false, c.2.2) else h.1 a, h.2)
theorem frz_less {h : AH} {q : Nat} : Less (frz h q) h := by
  refine ⟨rfl, fun a c hc => ?_⟩
  unfold frz at hc
  by_cases e : a = q
  · subst e
    simp only [if_true] at hc
    cases hq : h.1 a with
    | none => rw [hq] at hc; cases hc
    | some c0 =>
      rw [hq] at hc
      cases hc
      exact ⟨c0.2.1, rfl, fun h9 => by cases h9⟩
  · simp only [if_neg e] at hc
    exact ⟨c.2.1, hc, fun h9 => h9⟩
theorem Less.refl {h : AH} : Less h h := ⟨rfl, fun a c hc => ⟨c.2.1, hc, fun h9 => h9⟩⟩
theorem Less.trans {h h1 h2 : AH} (a : Less h2 h1) (b : Less h1 h) : Less h2 h := ⟨a.1.trans b.1, fun q c hc => by
  obtain ⟨w, hw, hwt⟩ := a.2 q c hc
  obtain ⟨w2, hw2, hwt2⟩ := b.2 q _ hw
  exact ⟨w2, hw2, fun h9 => hwt2 (hwt h9)⟩⟩
theorem frz_self {h : AH} {q k : Nat} {w : Bool} {fs : List Value} (hc : h.1 q = some (k, w, fs)) : (frz h q).1 q = some (k, false, fs) := by simp [frz, hc]
theorem frz_ne {h : AH} {q a : Nat} (hc : a ≠ q) : (frz h q).1 a = h.1 a := by simp [frz, hc]
/-- a byte -/
def sby (k : Nat) : Int32 := if k < 128 then i32 k else i32 k - 256
def Byt (b : Int32) : Prop := ∃ k, k < 256 ∧ b = sby k
/-- the hash of a text -/
def hsh (bs : List Int32) : Int32 := bs.foldl (fun a b => 31 * a + (b &&& 255)) 0
/-- a text at q, its letters frozen; its hash may be told later -/
def StrO (h : AH) (q : Nat) (bs : List Int32) : Prop := ∃ (w : Bool) (a : Nat) (x y : Int32), h.1 q = some (14, w, [.ref a, .int 0, .int x, .int y]) ∧ h.1 a = some (101, false, bs.map Value.int) ∧ (∀ b, b ∈ bs → Byt b) ∧ (w = false → ¬ (x = 0 ∧ y = 0)) ∧ (¬ x = 0 → x = hsh bs) ∧ (x = 0 → ¬ y = 0 → hsh bs = 0)
theorem StrO.at {h : AH} {q : Nat} {bs : List Int32} (hs : StrO h q bs) (h128 : ∀ b, b ∈ bs → ∃ k, k < 128 ∧ b = i32 k) : StrAt h q bs := by
  obtain ⟨w, a, x, y, h1, h2, h3, -⟩ := hs
  exact ⟨w, false, a, x, y, h1, h2, h128⟩
/-- kinds whose cells stay as they are: no texts (hash), no tree maps (views) -/
abbrev KX (k : Nat) : Prop := k ≠ 14 ∧ k ≠ 23
/-- a tree map's cell at q: the same but for its views -/
def VwR (h' : AH) (q : Nat) (fs fs' : List Value) : Prop := fs'.length = fs.length ∧ (∀ k, k ≠ 1 → k ≠ 7 → fs'[k]? = fs[k]?) ∧ (fs'[1]? = fs[1]? ∨ ∃ p, fs'[1]? = some (.ref p) ∧ h'.1 p = some (25, false, [.ref q])) ∧ (fs'[7]? = fs[7]? ∨ ∃ p, fs'[7]? = some (.ref p) ∧ h'.1 p = some (26, false, [.ref q]))
theorem VwR.refl {h' : AH} {q : Nat} {fs : List Value} : VwR h' q fs fs := ⟨rfl, fun _ _ _ => rfl, Or.inl rfl, Or.inl rfl⟩
theorem VwR.trans {h1 h2 : AH} {q : Nat} {fs f1 f2 : List Value} (a : VwR h1 q fs f1) (b : VwR h2 q f1 f2) (hf : ∀ q k fs, h1.1 q = some (k, false, fs) → h2.1 q = some (k, false, fs)) : VwR h2 q fs f2 := by
  refine ⟨b.1.trans a.1, fun k h1 h7 => (b.2.1 k h1 h7).trans (a.2.1 k h1 h7), ?_, ?_⟩
  · rcases b.2.2.1 with e | e
    · rcases a.2.2.1 with e2 | ⟨p, e2, e3⟩
      · exact Or.inl (e.trans e2)
      · exact Or.inr ⟨p, e.trans e2, hf _ _ _ e3⟩
    · exact Or.inr e
  · rcases b.2.2.2 with e | e
    · rcases a.2.2.2 with e2 | ⟨p, e2, e3⟩
      · exact Or.inl (e.trans e2)
      · exact Or.inr ⟨p, e.trans e2, hf _ _ _ e3⟩
    · exact Or.inr e
/-- what may have changed from h to h': cells of F; c units of room were used (hashes of texts, views of tree maps may be told) -/
def Chg (c : Nat) (F : Nat → Prop) (h h' : AH) : Prop := h.2.1 ≤ h'.2.1 ∧ h.2.2 ≤ h'.2.2 + c ∧ (∀ q k fs, h.1 q = some (k, false, fs) → h'.1 q = some (k, false, fs)) ∧ ((∀ q bs, StrO h q bs → StrO h' q bs) ∧ ∀ q fs, h.1 q = some (23, true, fs) → ¬ F q → ∃ fs', h'.1 q = some (23, true, fs') ∧ VwR h' q fs fs') ∧ (∀ q x, h.1 q = some x → KX x.1 → ¬ F q → h'.1 q = some x)
def F0s : Nat → Prop := fun _ => False
theorem Chg.refl {h : AH} {F : Nat → Prop} : Chg 0 F h h := ⟨Nat.le_refl _, by omega, fun _ _ _ h => h, ⟨fun _ _ h => h, fun _ fs e _ => ⟨fs, e, VwR.refl⟩⟩, fun _ _ h _ _ => h⟩
theorem Chg.trans {c1 c2 : Nat} {F F2 : Nat → Prop} {h h1 h2 : AH} (a : Chg c1 F h h1) (b : Chg c2 F2 h1 h2) (hF : ∀ q x, h.1 q = some x → F2 q → F q) : Chg (c1 + c2) F h h2 :=
  ⟨Nat.le_trans a.1 b.1, by have := a.2.1; have := b.2.1; omega, fun q k fs e => b.2.2.1 q k fs (a.2.2.1 q k fs e), ⟨fun q bs e => b.2.2.2.1.1 q bs (a.2.2.2.1.1 q bs e), fun q fs e hq => by
    obtain ⟨f1, e1, v1⟩ := a.2.2.2.1.2 q fs e hq
    obtain ⟨f2, e2, v2⟩ := b.2.2.2.1.2 q f1 e1 (fun h9 => hq (hF q _ e h9))
    exact ⟨f2, e2, v1.trans v2 b.2.2.1⟩⟩, fun q x e hx hq => b.2.2.2.2 q x (a.2.2.2.2 q x e hx hq) hx fun h9 => hq (hF q x e h9)⟩
theorem Chg.trans0 {c1 c2 : Nat} {F : Nat → Prop} {h h1 h2 : AH} (a : Chg c1 F h h1) (b : Chg c2 F0s h1 h2) : Chg (c1 + c2) F h h2 := a.trans b fun _ _ _ h9 => h9.elim
theorem Chg.same {c1 c2 : Nat} {F : Nat → Prop} {h h1 h2 : AH} (a : Chg c1 F h h1) (b : Chg c2 F h1 h2) : Chg (c1 + c2) F h h2 := a.trans b fun _ _ _ h9 => h9
theorem Chg.mono {c c' : Nat} {F F' : Nat → Prop} {h h' : AH} (a : Chg c F h h') (hc : c ≤ c') (hF : ∀ q, F q → F' q) : Chg c' F' h h' :=
  ⟨a.1, by have := a.2.1; omega, a.2.2.1, ⟨a.2.2.2.1.1, fun q fs e hq => a.2.2.2.1.2 q fs e fun h9 => hq (hF q h9)⟩, fun q x e hx hq => a.2.2.2.2 q x e hx fun h9 => hq (hF q h9)⟩
/-- cells lie below the next address -/
def WFh (h : AH) : Prop := ∀ a c, h.1 a = some c → a < h.2.1
theorem StrO.new {h : AH} {q kd cost : Nat} {fs : List Value} {bs : List Int32} (hw : WFh h) (hs : StrO h q bs) : StrO (h.new kd fs cost) q bs := by
  obtain ⟨w, a, x, y, h1, h2, h3⟩ := hs
  exact ⟨w, a, x, y, by rw [AH.new_ne (by have := hw _ _ h1; omega)]; exact h1, by rw [AH.new_ne (by have := hw _ _ h2; omega)]; exact h2, h3⟩
theorem Chg.new {h : AH} {kd cost : Nat} {fs : List Value} (hw : WFh h) (hc : cost ≤ h.2.2) : Chg cost F0s h (h.new kd fs cost) :=
  ⟨Nat.le_succ _, by show h.2.2 ≤ h.2.2 - cost + cost; omega, fun q k fs e => by rw [AH.new_ne (by have := hw _ _ e; omega)]; exact e, ⟨fun q bs hs => hs.new hw, fun q fs e _ => ⟨fs, by rw [AH.new_ne (by have := hw _ _ e; omega)]; exact e, VwR.refl⟩⟩, fun q x e _ _ => by rw [AH.new_ne (by have := hw _ _ e; omega)]; exact e⟩
theorem WFh.new {h : AH} {kd cost : Nat} {fs : List Value} (hw : WFh h) : WFh (h.new kd fs cost) := fun a c hc => by
  show a < h.2.1 + 1
  by_cases e : a = h.2.1
  · omega
  · rw [AH.new_ne e] at hc
    have := hw a c hc; omega
theorem WFh.put {h : AH} {a : Nat} {fs : List Value} (hw : WFh h) : WFh (h.put a fs) := fun q c hc => by
  by_cases e : q = a
  · subst e
    cases hq : h.1 q with
    | none => simp [AH.put, hq] at hc
    | some c0 => exact hw q c0 hq
  · rw [AH.put_ne e] at hc
    exact hw q c hc
theorem WFh.frz {h : AH} {q : Nat} (hw : WFh h) : WFh (frz h q) := fun a c hc => by
  obtain ⟨w, h9, -⟩ := frz_less.2 a c hc
  exact hw a _ h9
theorem StrO.put {h : AH} {q a kd : Nat} {fs fs' : List Value} {bs : List Int32} (hc : h.1 a = some (kd, true, fs)) (hk : kd ≠ 14) (hs : StrO h q bs) : StrO (h.put a fs') q bs := by
  obtain ⟨w, b, x, y, h1, h2, h3⟩ := hs
  have e1 : q ≠ a := fun e => by subst e; rw [hc] at h1; cases h1; exact hk rfl
  have e2 : b ≠ a := fun e => by subst e; rw [hc] at h2; cases h2
  exact ⟨w, b, x, y, by rw [AH.put_ne e1]; exact h1, by rw [AH.put_ne e2]; exact h2, h3⟩
/-- a cell (not a text's) written -/
theorem Chg.put {h : AH} {a kd : Nat} {fs fs' : List Value} {F : Nat → Prop} (hc : h.1 a = some (kd, true, fs)) (hk : kd ≠ 14) (hF : F a) : Chg 0 F h (h.put a fs') :=
  ⟨Nat.le_refl _, by rw [AH.put_2]; omega, fun q k fs e => by rw [AH.put_ne (fun e9 => by subst e9; rw [hc] at e; cases e)]; exact e, ⟨fun q bs hs => hs.put hc hk, fun q fs e hq => ⟨fs, by rw [AH.put_ne (by intro e9; subst e9; exact hq hF)]; exact e, VwR.refl⟩⟩, fun q x e _ hq => by rw [AH.put_ne (by intro e9; subst e9; exact hq hF)]; exact e⟩
/-- a cell frozen -/
theorem Chg.frz {h : AH} {q kd : Nat} {w : Bool} {fs : List Value} {F : Nat → Prop} (hc : h.1 q = some (kd, w, fs)) (hk : kd ≠ 14) (hF : F q) : Chg 0 F h (frz h q) := by
  refine ⟨Nat.le_refl _, by show h.2.2 ≤ h.2.2 + 0; omega, fun a k fs' e => ?_, ⟨fun a bs hs => ?_, fun a fs e ha => ⟨fs, ?_, VwR.refl⟩⟩, fun a x e _ ha => ?_⟩
  · by_cases e9 : a = q
    · subst e9
      rw [hc] at e
      cases e
      exact frz_self hc
    · rw [frz_ne e9]; exact e
  · obtain ⟨w', b, x, y, h1, h2, h3⟩ := hs
    have e1 : a ≠ q := fun e => by subst e; rw [hc] at h1; cases h1; exact hk rfl
    refine ⟨w', b, x, y, by rw [frz_ne e1]; exact h1, ?_, h3⟩
    by_cases e9 : b = q
    · subst e9
      exact frz_self h2
    · rw [frz_ne e9]; exact h2
  · rw [frz_ne (by intro e9; subst e9; exact ha hF)]; exact e
  · rw [frz_ne (by intro e9; subst e9; exact ha hF)]; exact e
/-- a boxed number -/
def IntO (h : AH) (v : Value) (n : Int32) : Prop := ∃ r, v = .ref r ∧ h.1 r = some (13, false, [.int n])
theorem IntO.chg {c : Nat} {F : Nat → Prop} {h h' : AH} {v : Value} {n : Int32} (hi : IntO h v n) (hc : Chg c F h h') : IntO h' v n := by
  obtain ⟨r, e, h1⟩ := hi
  exact ⟨r, e, hc.2.2.1 _ _ _ h1⟩
theorem IntO.isRef {h : AH} {v : Value} {n : Int32} (hi : IntO h v n) : v.isRef = true := by obtain ⟨r, rfl, -⟩ := hi; rfl
/-- the small numbers are boxed from the start -/
def ICache (G : GL) (h : AH) : Prop := G.sta 10 = .int 127 ∧ ∃ (qc : Nat) (vs : List Value), G.sta 11 = .ref qc ∧ h.1 qc = some (107, false, vs) ∧ ∀ k, k < 256 → ∃ v, vs[k]? = some v ∧ IntO h v (i32 k - 128)
theorem ICache.chg {G : GL} {c : Nat} {F : Nat → Prop} {h h' : AH} (hi : ICache G h) (hc : Chg c F h h') : ICache G h' := by
  obtain ⟨h1, qc, vs, h2, h3, h4⟩ := hi
  refine ⟨h1, qc, vs, h2, hc.2.2.1 _ _ _ h3, fun k hk => ?_⟩
  obtain ⟨v, e, hv⟩ := h4 k hk
  exact ⟨v, e, hv.chg hc⟩
theorem MF.wfh {G : GL} {d : Nat} {y : MI} {pc : Nat} {L st : List Value} {h : AH} {Q : Out → AH → Prop} (k : WFh h → MF G d y pc L st h Q) : MF G d y pc L st h Q := MF.wf k
section
variable {G : GL} {d : Nat} {h : AH} {Qx : Nat → AH → Prop}
theorem s_valueOf {n : Nat} (hn : n < 1000000) {K : Value → AH → Prop} (hI : ICache G h) (hroom : 5 ≤ h.2.2) (HK : ∀ v h', IntO h' v (i32 n) → Chg 5 F0s h h' → (n < 128 → h' = h) → K v h') : MF G (d + 3) mi_Integer_valueOf 0 [.int (i32 n)] [] h (cR K Qx) := by
  refine MF.wfh fun hw => MF.post ?_
  have n0 : ¬ i32 n < -128 := by
    rw [Int32.lt_iff_toInt_lt, i32_toInt (by omega)]
    have : (-128 : Int32).toInt = -128 := rfl
    omega
  obtain ⟨h1, qc, vs, h2, h3, h4⟩ := hI
  refine b_Integer_valueOf_0 ⟨fun h9 => absurd h9 n0, fun _ => ⟨127, h1, fun hlt => ?_, fun hge => ⟨by rw [h2]; rfl, qc, h2, ?_⟩⟩⟩
  · have hlt' : 127 < n := (i32_lt (a := 127) (by omega) (by omega)).mp hlt
    refine b_Integer_valueOf_23 ⟨_, _, rfl, rfl, hroom, b_Integer_init_0 (b_Number_init_0 (cV_mk (pF_of AH.new_self (by simp) (by simp) (cV_mk ⟨_, frz_less (q := h.2.1), cR_mk rfl (HK _ _ ⟨_, rfl, frz_self (w := true) (AH.put_self AH.new_self)⟩ ?_ fun h9 => by omega)⟩))))⟩
    have c1 := Chg.new (kd := 13) (fs := [.int 0]) hw hroom
    have c2 := c1.trans (Chg.put (F := fun q => q = h.2.1) (fs' := [.int (i32 n)]) AH.new_self (by decide) rfl) (F := F0s) fun q x e h9 => by have := hw _ _ e; omega
    have c3 := c2.trans (Chg.frz (F := fun q => q = h.2.1) (w := true) (AH.put_self AH.new_self) (by decide) rfl) (F := F0s) fun q x e h9 => by have := hw _ _ e; omega
    exact c3
  · have hge' : ¬ 127 < n := fun e => hge ((i32_lt (a := 127) (by omega) (by omega)).mpr e)
    obtain ⟨v, e, hv⟩ := h4 (n + 128) (by omega)
    have e128 : i32 n + 128 = i32 (n + 128) := i32_add n 128
    have e2 : i32 (n + 128) - 128 = i32 n := by rw [show (128 : Int32) = i32 128 from rfl, i32_sub (by omega)]; congr 1
    rw [e2] at hv
    rw [e128]
    refine aR_of h3 (i32_nn (by omega)) (by rw [i32_nat (by omega)]; exact e) hv.isRef ⟨h, Less.refl, cR_mk hv.isRef (HK v h hv ?_ fun _ => rfl)⟩
    exact (Chg.refl (F := F0s)).mono (by omega) fun _ h9 => h9
end
