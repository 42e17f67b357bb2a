/-! tree maps: what they hold; get, remove -/
set_option maxRecDepth 100000
theorem TOK.kv {A B : Int} {E E' : TE} {Nd : Nat → Prop} {root : Value} {g : TG} (h : TOK A B E Nd root g) (hE : ∀ x j, 2 ≤ j → E' x j = E x j) : TOK A B E' Nd root g := by
  have h2 : ∀ x, E' x 2 = E x 2 := fun x => hE x 2 (by decide)
  have h3 : ∀ x, E' x 3 = E x 3 := fun x => hE x 3 (by decide)
  have h4 : ∀ x, E' x 4 = E x 4 := fun x => hE x 4 (by decide)
  refine ⟨?_, fun x hx => ?_⟩
  · rcases h.1 with e | ⟨r, a, b, c, e⟩
    · exact Or.inl e
    · exact Or.inr ⟨r, a, b, (h4 r).trans c, e⟩
  · obtain ⟨a, b, c, d, e, f, k⟩ := h.2 x hx
    refine ⟨a, b, c, d, ?_, ?_, ?_⟩
    · rcases e with e | ⟨y, y1, y2, y3, y4⟩
      · exact Or.inl ((h2 x).trans e)
      · exact Or.inr ⟨y, (h2 x).trans y1, y2, (h4 y).trans y3, y4⟩
    · rcases f with e | ⟨y, y1, y2, y3, y4⟩
      · exact Or.inl ((h3 x).trans e)
      · exact Or.inr ⟨y, (h3 x).trans y1, y2, (h4 y).trans y3, y4⟩
    · rw [h4]
      rcases k with k | ⟨p, p1, p2, p3⟩
      · exact Or.inl k
      · exact Or.inr ⟨p, p1, p2, by rw [h2, h3]; exact p3⟩
section
variable {A B : Int} {g : TG} {G : GL} {d : Nat} {c : Nat} {F : Nat → Prop} {h0 : AH} {m : Nat} {Nd : Nat → Prop} {f : Nat → Value} {E KV : TE} {gk : Nat → Int} {C : Nat → Int32} {root : Value} {sz mo : Int32} {h : AH} {Qx : Nat → AH → Prop} {K : AH → Prop}
/-- after an entry x went -/
def Gone (E : TE) (Nd : Nat → Prop) (g : TG) (x : Nat) (E' : TE) (Nd' : Nat → Prop) (g' : TG) : Prop :=
  (∀ y, Nd' y → ∃ z, Nd z ∧ z ≠ x ∧ g'.1 y = g.1 z ∧ E' y 0 = E z 0 ∧ E' y 1 = E z 1) ∧ (∀ z, Nd z → z ≠ x → ∃ y, Nd' y ∧ g'.1 y = g.1 z ∧ E' y 0 = E z 0 ∧ E' y 1 = E z 1) ∧ ∀ y, Nd' y → Nd y
theorem s_del0 {x : Nat} (hW : TW c F h0 m Nd f E C root sz mo h) (hT : TOK A B E Nd root g) (hx : Nd x) (HK : ∀ h' Nd' E' C' root' g' sz' mo', TW c F h0 m Nd' f E' C' root' sz' mo' h' → TOK A B E' Nd' root' g' → Gone E Nd g x E' Nd' g' → K h') : MF G (d + 2) mi_TreeMap_deleteEntry 0 [.ref m, .ref x, .retAddr 0] [] h (cV K Qx) := by
  have one : ∀ {sz mo : Int32} {h : AH} {rv u : Value}, TW c F h0 m Nd f E C root sz mo h → ((E x 2 = .null ∧ rv = E x 3) ∨ (E x 3 = .null ∧ rv = E x 2 ∧ ¬ rv = .null)) → MF G (d + 2) mi_TreeMap_deleteEntry 75 [.ref m, .ref x, u] [rv] h (cV K Qx) := by
    intro sz mo h rv u hW hrv
    refine s_del75 (gk := g.1) (KV := E) ⟨hW, hT, rfl, fun y => ⟨rfl, rfl⟩⟩ hx hrv fun h' E' C' root' g' T' => HK h' _ _ _ _ _ _ _ T'.1 T'.2.1 ⟨fun y hy => ⟨y, hy.1, hy.2, by rw [T'.2.2.1], T'.2.2.2 y⟩, fun z hz hzx => ⟨z, ⟨hz, hzx⟩, by rw [T'.2.2.1], T'.2.2.2 z⟩, fun y hy => hy.1⟩
  refine b_TreeMap_deleteEntry_0 rfl (hW.gM (hW.pM fun h1 W1 => W1.gZ (W1.pZ fun h2 W2 => dR_of (W2.gE hx rfl ⟨fun e => ?_, fun q e => ?_⟩))))
  · exact W2.gE hx rfl ⟨fun _ => W2.gE hx rfl (one W2 (Or.inl ⟨e, rfl⟩)), fun q9 e9 => by rw [e] at e9; cases e9⟩
  · refine W2.gE hx rfl ⟨fun e3 => W2.gE hx rfl ⟨fun e9 => (by rw [e] at e9; cases e9), fun q9 e9 => W2.gE hx rfl (one W2 (Or.inr ⟨e3, rfl, by rw [e]; intro e8; cases e8⟩))⟩, fun q3 e3 => ?_⟩
    refine s_succ W2 hT hx fun v hv1 hv2 hv3 => ?_
    obtain ⟨s, rfl, hs2⟩ := hv3 (by rw [e3]; intro e8; cases e8)
    have hs := hv2.ref
    rcases hv1 with ⟨e9, -⟩ | ⟨s', e9, -, hlt, hno⟩
    · cases e9
    cases e9
    have hsx : s ≠ x := fun e9 => by subst e9; omega
    obtain ⟨a1, a2, a3, a4, -⟩ := hT.2 s hs
    refine dR_of (W2.gE hs rfl (W2.pE hx (W2.2.2.2.2.2.1 s hs 0 (by decide)) fun h3 W3 => ?_))
    have u1 : upE E x 0 (E s 0) s 1 = E s 1 := by unfold upE; grind
    have u2 : upE (upE E x 0 (E s 0)) x 1 (E s 1) s 2 = .null := by unfold upE; grind
    refine W3.gE hs u1 (W3.pE hx (W2.2.2.2.2.2.1 s hs 1 (by decide)) fun h4 W4 => W4.gE hs u2 ⟨fun _ => W4.gE hs rfl ?_, fun q9 e9 => (by cases e9)⟩)
    have hT4 : TOK A B (upE (upE E x 0 (E s 0)) x 1 (E s 1)) Nd root g := hT.kv fun y j hj => by unfold upE; grind
    refine s_del75 (gk := g.1) (KV := upE (upE E x 0 (E s 0)) x 1 (E s 1)) ⟨W4, hT4, rfl, fun y => ⟨rfl, rfl⟩⟩ hs (Or.inl ⟨u2, rfl⟩) fun h' E' C' root' g' T' => ?_
    have hgg := T'.2.2.1
    have hR := T'.2.1.relab (p := x) (k := g.1 s) ⟨hx, Ne.symm hsx⟩ (by rw [hgg]; exact hlt) (by omega) (fun y hy hyy => by
      rw [hgg] at hyy
      have := hno y hy.1
      have h9 : g.1 y = g.1 s := by omega
      exact hy.2 (hT.inj hy.1 hs h9))
    have rx : (relG g' x (g.1 s)).1 x = g.1 s := by
      show (if g'.1 x = g'.1 x then g.1 s else _) = _
      rw [if_pos rfl]
    have ry : ∀ y, Nd y → y ≠ x → (relG g' x (g.1 s)).1 y = g.1 y := fun y hy hyx => by
      show (if g'.1 y = g'.1 x then g.1 s else g'.1 y) = _
      rw [hgg, if_neg (fun e9 => hyx (hT.inj hy hx e9))]
    have kx : E' x 0 = E s 0 ∧ E' x 1 = E s 1 := ⟨(T'.2.2.2 x).1.trans (by unfold upE; grind), (T'.2.2.2 x).2.trans (by unfold upE; grind)⟩
    have ky : ∀ y, y ≠ x → E' y 0 = E y 0 ∧ E' y 1 = E y 1 := fun y hy => ⟨(T'.2.2.2 y).1.trans (by unfold upE; grind), (T'.2.2.2 y).2.trans (by unfold upE; grind)⟩
    refine HK h' _ _ _ _ _ _ _ T'.1 hR ⟨fun y hy => ?_, fun z hz hzx => ?_, fun y hy => hy.1⟩
    · by_cases e9 : y = x
      · subst e9
        exact ⟨s, hs, hsx, rx, kx⟩
      · exact ⟨y, hy.1, e9, ry y hy.1 e9, ky y e9⟩
    · by_cases e9 : z = s
      · subst e9
        exact ⟨x, ⟨hx, Ne.symm hsx⟩, rx, kx⟩
      · exact ⟨z, ⟨hz, e9⟩, ry z hz hzx, ky z hzx⟩
end
/-- the cells of a tree map -/
def TC (h : AH) (m : Nat) (Nd : Nat → Prop) (f : Nat → Value) (E : TE) (C : Nat → Int32) (root : Value) (sz mo : Int32) : Prop :=
  h.1 m = some (23, true, mCell f root sz mo) ∧ (∀ x, Nd x → h.1 x = some (24, true, tCell E C x)) ∧ (∀ x, Nd x → ∀ j, j < 5 → (E x j).isRef = true) ∧ (∀ x, C x = 0 ∨ C x = 1) ∧ root.isRef = true
theorem TC.tw {h : AH} {m : Nat} {Nd F : Nat → Prop} {f : Nat → Value} {E : TE} {C : Nat → Int32} {root : Value} {sz mo : Int32} (hT : TC h m Nd f E C root sz mo) (hw : WFh h) (hF : ∀ x, x = m ∨ Nd x → F x) : TW 0 F h m Nd f E C root sz mo h := ⟨hw, Chg.refl, fun x hx => Or.inl (hF x hx), hT⟩
theorem TW.tc {c : Nat} {F : Nat → Prop} {h0 h : AH} {m : Nat} {Nd : Nat → Prop} {f : Nat → Value} {E : TE} {C : Nat → Int32} {root : Value} {sz mo : Int32} (hW : TW c F h0 m Nd f E C root sz mo h) : TC h m Nd f E C root sz mo := hW.2.2.2
def Vw (h : AH) (m : Nat) (f : Nat → Value) : Prop := (f 1 = .null ∨ ∃ q, f 1 = .ref q ∧ h.1 q = some (25, false, [.ref m])) ∧ (f 7 = .null ∨ ∃ q, f 7 = .ref q ∧ h.1 q = some (26, false, [.ref m]))
theorem Vw.chg {h h' : AH} {m : Nat} {f : Nat → Value} {c : Nat} {F : Nat → Prop} (hv : Vw h m f) (hc : Chg c F h h') : Vw h' m f := by
  refine ⟨?_, ?_⟩
  · rcases hv.1 with e | ⟨q, e, e2⟩
    · exact Or.inl e
    · exact Or.inr ⟨q, e, hc.2.2.1 _ _ _ e2⟩
  · rcases hv.2 with e | ⟨q, e, e2⟩
    · exact Or.inl e
    · exact Or.inr ⟨q, e, hc.2.2.1 _ _ _ e2⟩
def PMc (Nd : Nat → Prop) (E : TE) (gk : Nat → Int) (mv : Nat → Option Nat) : Prop :=
  (∀ x, Nd x → ∃ (k : Nat) (a : Nat), k < 100 ∧ gk x = (k : Int) ∧ E x 1 = .ref a ∧ mv k = some a) ∧ (∀ (k a : Nat), mv k = some a → ∃ x, Nd x ∧ gk x = (k : Int) ∧ E x 1 = .ref a)
/-- the tree map at m holds mv; it owns the cells F -/
def PM (h : AH) (m : Nat) (mv : Nat → Option Nat) (F : Nat → Prop) : Prop := ∃ (Nd : Nat → Prop) (f : Nat → Value) (E : TE) (C : Nat → Int32) (root : Value) (sz mo : Int32) (g : TG), TC h m Nd f E C root sz mo ∧ TOK (-1) 100 E Nd root g ∧ KyO h E Nd g.1 ∧ PMc Nd E g.1 mv ∧ Vw h m f ∧ ∀ x, F x ↔ (x = m ∨ Nd x)
theorem TC.new {h : AH} {m kd cost : Nat} {fs : List Value} {Nd : Nat → Prop} {f : Nat → Value} {E : TE} {C : Nat → Int32} {root : Value} {sz mo : Int32} (hT : TC h m Nd f E C root sz mo) (hw : WFh h) : TC (h.new kd fs cost) m Nd f E C root sz mo :=
  ⟨by rw [AH.new_ne (by have := hw _ _ hT.1; omega)]; exact hT.1, fun x hx => by rw [AH.new_ne (by have := hw _ _ (hT.2.1 x hx); omega)]; exact hT.2.1 x hx, hT.2.2⟩
theorem TC.chg {h h' : AH} {m : Nat} {Nd F : Nat → Prop} {f : Nat → Value} {E : TE} {C : Nat → Int32} {root : Value} {sz mo : Int32} {c : Nat} (hT : TC h m Nd f E C root sz mo) (hv : Vw h m f) (hc : Chg c F h h') (hd : ∀ x, x = m ∨ Nd x → ¬ F x) : ∃ f', TC h' m Nd f' E C root sz mo ∧ Vw h' m f' := by
  obtain ⟨fs', e1, v1, v2, v3, v4⟩ := hc.2.2.2.1.2 m _ hT.1 (hd m (Or.inl rfl))
  have hl : fs'.length = 9 := v1
  have e : fs' = mCell (fun k => fs'.getD k .null) root sz mo := by
    apply List.ext_getElem?
    intro k
    match k with
    | 0 => exact getD_at (by omega)
    | 1 => exact getD_at (by omega)
    | 2 => exact v2 2 (by decide) (by decide)
    | 3 => exact v2 3 (by decide) (by decide)
    | 4 => exact v2 4 (by decide) (by decide)
    | 5 => exact v2 5 (by decide) (by decide)
    | 6 => exact getD_at (by omega)
    | 7 => exact getD_at (by omega)
    | 8 => exact getD_at (by omega)
    | k + 9 => rw [List.getElem?_eq_none (by omega), List.getElem?_eq_none (by show 9 ≤ k + 9; omega)]
  have g1 : fs'[1]? = some (fs'.getD 1 .null) := getD_at (by omega)
  have g7 : fs'[7]? = some (fs'.getD 7 .null) := getD_at (by omega)
  have hv' := hv.chg hc
  refine ⟨fun k => fs'.getD k .null, ⟨by rw [← e]; exact e1, fun x hx => hc.2.2.2.2 _ _ (hT.2.1 x hx) (show KX 24 from by decide) (hd x (Or.inr hx)), hT.2.2⟩, ?_, ?_⟩
  · rcases v3 with e3 | ⟨p, e3, e4⟩
    · have : fs'.getD 1 .null = f 1 := by
        rw [g1] at e3
        exact Option.some.inj e3
      show fs'.getD 1 .null = .null ∨ ∃ q, fs'.getD 1 .null = .ref q ∧ _
      rw [this]
      exact hv'.1
    · rw [g1] at e3
      exact Or.inr ⟨p, Option.some.inj e3, e4⟩
  · rcases v4 with e3 | ⟨p, e3, e4⟩
    · have : fs'.getD 7 .null = f 7 := by
        rw [g7] at e3
        exact Option.some.inj e3
      show fs'.getD 7 .null = .null ∨ ∃ q, fs'.getD 7 .null = .ref q ∧ _
      rw [this]
      exact hv'.2
    · rw [g7] at e3
      exact Or.inr ⟨p, Option.some.inj e3, e4⟩
theorem PM.chg {h h' : AH} {m c : Nat} {mv : Nat → Option Nat} {F F' : Nat → Prop} (hp : PM h m mv F) (hc : Chg c F' h h') (hd : ∀ x, F x → ¬ F' x) : PM h' m mv F := by
  obtain ⟨Nd, f, E, C, root, sz, mo, g, h1, h2, h3, h4, h5, h6⟩ := hp
  obtain ⟨f', t1, t2⟩ := h1.chg h5 hc (fun x hx => hd x ((h6 x).mpr hx))
  exact ⟨Nd, f', E, C, root, sz, mo, g, t1, h2, h3.chg hc, h4, t2, h6⟩
theorem PM.low {h : AH} {m : Nat} {mv : Nat → Option Nat} {F : Nat → Prop} (hp : PM h m mv F) (hw : WFh h) : ∀ x, F x → x < h.2.1 := by
  obtain ⟨Nd, f, E, C, root, sz, mo, g, h1, h2, h3, h4, h5, h6⟩ := hp
  intro x hx
  rcases (h6 x).mp hx with rfl | hx
  · exact hw _ _ h1.1
  · exact hw _ _ (h1.2.1 x hx)
theorem PM.self {h : AH} {m : Nat} {mv : Nat → Option Nat} {F : Nat → Prop} (hp : PM h m mv F) : F m := by
  obtain ⟨Nd, f, E, C, root, sz, mo, g, h1, h2, h3, h4, h5, h6⟩ := hp
  exact (h6 m).mpr (Or.inl rfl)
theorem PM.has {h : AH} {m : Nat} {mv : Nat → Option Nat} {F : Nat → Prop} {ks : List Nat} (hp : PM h m mv F) (hk : 23 ∈ ks) : hasKs h m ks := by
  obtain ⟨Nd, f, E, C, root, sz, mo, g, h1, h2, h3, h4, h5, h6⟩ := hp
  exact hasKs_of h1.1 hk
theorem PM.kinds {h : AH} {m : Nat} {mv : Nat → Option Nat} {F : Nat → Prop} (hp : PM h m mv F) : ∀ x, F x → ∃ fs, h.1 x = some (23, true, fs) ∨ h.1 x = some (24, true, fs) := by
  obtain ⟨Nd, f, E, C, root, sz, mo, g, h1, h2, h3, h4, h5, h6⟩ := hp
  intro x hx
  rcases (h6 x).mp hx with rfl | hx
  · exact ⟨_, Or.inl h1.1⟩
  · exact ⟨_, Or.inr (h1.2.1 x hx)⟩
def updM (mv : Nat → Option Nat) (k : Nat) (o : Option Nat) : Nat → Option Nat := fun j => if j = k then o else mv j
theorem updM_s {mv : Nat → Option Nat} {k j : Nat} {o : Option Nat} (h : j = k) : updM mv k o j = o := if_pos h
theorem updM_n {mv : Nat → Option Nat} {k j : Nat} {o : Option Nat} (h : ¬ j = k) : updM mv k o j = mv j := if_neg h
def oref : Option Nat → Value
  | some a => .ref a
  | none => .null
theorem oref_isRef {o : Option Nat} : (oref o).isRef = true := by cases o <;> rfl
section
variable {G : GL} {d : Nat} {h : AH} {m : Nat} {mv : Nat → Option Nat} {F : Nat → Prop} {Qx : Nat → AH → Prop} {K : Value → AH → Prop}
theorem s_pmGet {kv : Value} {k : Nat} (hp : PM h m mv F) (hk : EI h kv k) (HK : K (oref (mv k)) h) : MF G (d + 5) mi_TreeMap_get 0 [.ref m, kv, .retAddr 0] [] h (cR K Qx) := by
  refine MF.wfh fun hw => MF.up (d := 5) (by omega) ?_
  obtain ⟨Nd, f, E, C, root, sz, mo, g, h1, h2, h3, h4, h5, h6⟩ := hp
  have W := h1.tw hw (F := F) fun x hx => (h6 x).mpr hx
  have hkr : kv.isRef = true := by obtain ⟨m', -, -, hi⟩ := hk; exact hi.isRef
  refine b_TreeMap_get_0 hkr ⟨W.hasK (by simp), s_getEntry W h2 h3 hk fun v q1 q2 => ?_⟩
  refine ⟨fun e => ?_, fun x e => ?_⟩
  · subst e
    rcases q1 with ⟨-, q1⟩ | ⟨y, e, -⟩
    · have : mv k = none := by
        cases hmv : mv k with
        | none => rfl
        | some a =>
          obtain ⟨y, y1, y2, -⟩ := h4.2 k a hmv
          exact absurd y2 (q1 y y1)
      rw [this] at HK
      exact cR_mk rfl HK
    · cases e
  · subst e
    rcases q1 with ⟨e, -⟩ | ⟨y, e, y1, y2⟩
    · cases e
    · cases e
      obtain ⟨k', a, -, e1, e2, e3⟩ := h4.1 x y1
      have ek : k' = k := by omega
      subst ek
      refine W.gE y1 e2 ?_
      rw [e3] at HK
      exact cR_mk rfl HK
theorem s_pmRemove {kv : Value} {k : Nat} (hp : PM h m mv F) (hk : EI h kv k) (HK : ∀ h' F', Chg 0 F h h' → PM h' m (updM mv k none) F' → (∀ x, F' x → F x) → K (oref (mv k)) h') : MF G (d + 5) mi_TreeMap_remove 0 [.ref m, kv, .retAddr 0, .retAddr 0] [] h (cR K Qx) := by
  refine MF.wfh fun hw => MF.up (d := 5) (by omega) ?_
  have hp0 := hp
  obtain ⟨Nd, f, E, C, root, sz, mo, g, h1, h2, h3, h4, h5, h6⟩ := hp
  have W := h1.tw hw (F := F) fun x hx => (h6 x).mpr hx
  have hkr : kv.isRef = true := by obtain ⟨m', -, -, hi⟩ := hk; exact hi.isRef
  refine b_TreeMap_remove_0 hkr ⟨W.hasK (by simp), s_getEntry W h2 h3 hk fun v q1 q2 => ?_⟩
  refine ⟨fun e => ?_, fun x e => ?_⟩
  · subst e
    rcases q1 with ⟨-, q1⟩ | ⟨y, e, -⟩
    · have : mv k = none := by
        cases hmv : mv k with
        | none => rfl
        | some a =>
          obtain ⟨y, y1, y2, -⟩ := h4.2 k a hmv
          exact absurd y2 (q1 y y1)
      have e2 : updM mv k none = mv := by
        funext j
        by_cases e : j = k
        · rw [updM_s e, e]; exact this.symm
        · rw [updM_n e]
      have h9 := HK h F Chg.refl (by rw [e2]; exact hp0) fun x hx => hx
      rw [this] at h9
      exact cR_mk rfl h9
    · cases e
  · subst e
    rcases q1 with ⟨e, -⟩ | ⟨y, e, y1, y2⟩
    · cases e
    cases e
    obtain ⟨k', a, -, e1, e2, e3⟩ := h4.1 x y1
    have ek : k' = k := by omega
    subst ek
    refine W.gE y1 e2 ⟨W.hasK (by simp), s_del0 (d := 2) W h2 y1 fun h8 Nd' E' C' root' g' sz' mo' W' T' Gn => cR_mk rfl ?_⟩
    have h9 := HK h8 (fun x => x = m ∨ Nd' x) W'.2.1 ⟨Nd', f, E', C', root', sz', mo', g', W'.tc, T', fun y hy => ?_, ⟨fun y hy => ?_, fun j b hj => ?_⟩, h5.chg W'.2.1, fun x => Iff.rfl⟩ fun z hz => (h6 z).mpr (hz.imp id (Gn.2.2 z))
    · rw [e3] at h9; exact h9
    · obtain ⟨z, z1, z2, z3, z4, z5⟩ := Gn.1 y hy
      rw [z3, z4]
      exact (h3 z z1).chg W'.2.1
    · obtain ⟨z, z1, z2, z3, z4, z5⟩ := Gn.1 y hy
      obtain ⟨j, b, b1, b2, b3, b4⟩ := h4.1 z z1
      refine ⟨j, b, b1, z3.trans b2, z5.trans b3, ?_⟩
      rw [updM_n]
      · exact b4
      · intro e9
        subst e9
        exact z2 (h2.inj z1 y1 (by omega))
    · by_cases e9 : j = k'
      · rw [updM_s e9] at hj; cases hj
      · rw [updM_n e9] at hj
        obtain ⟨z, z1, z2, z3⟩ := h4.2 j b hj
        obtain ⟨y, u1, u2, u3, u4⟩ := Gn.2.1 z z1 (fun e8 => by subst e8; omega)
        exact ⟨y, u1, u2.trans z2, u4.trans z3⟩
end
