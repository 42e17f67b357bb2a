/-! search trees on the heap: reading, writing, turning -/
set_option maxRecDepth 100000
def fl (E : TE) (k : Nat) : Value → Value
  | .ref x => E x k
  | _ => .null
def fcl (C : Nat → Int32) : Value → Int32
  | .ref x => C x
  | _ => 1
def upC (C : Nat → Int32) (v : Value) (c : Int32) : Nat → Int32 := fun x => if v = .ref x then c else C x
def tCell (E : TE) (C : Nat → Int32) (x : Nat) : List Value := [E x 0, E x 1, E x 2, E x 3, E x 4, .int (C x)]
def mCell (f : Nat → Value) (root : Value) (sz mo : Int32) : List Value := [f 0, f 1, .null, root, .int sz, .int mo, f 6, f 7, f 8]
/-- the tree m stands on the heap h, which came out of h0 -/
def TW (c : Nat) (F : Nat → Prop) (h0 : AH) (m : Nat) (Nd : Nat → Prop) (f : Nat → Value) (E : TE) (C : Nat → Int32) (root : Value) (sz mo : Int32) (h : AH) : Prop :=
  WFh h0 ∧ Chg c F h0 h ∧ (∀ x, x = m ∨ Nd x → F x ∨ h0.2.1 ≤ x) ∧ h.1 m = some (23, true, mCell f root sz mo) ∧ (∀ x, Nd x → h.1 x = some (24, true, tCell E C x)) ∧ (∀ x, Nd x → ∀ j, j < 5 → (E x j).isRef = true) ∧ (∀ x, C x = 0 ∨ C x = 1) ∧ root.isRef = true
/-- v is nothing or a node -/
def NV (Nd : Nat → Prop) (v : Value) : Prop := v = .null ∨ ∃ x, v = .ref x ∧ Nd x
theorem NV.isRef {Nd : Nat → Prop} {v : Value} (h : NV Nd v) : v.isRef = true := by
  rcases h with rfl | ⟨x, rfl, -⟩ <;> rfl
theorem NV.ref {Nd : Nat → Prop} {x : Nat} (h : NV Nd (.ref x)) : Nd x := by
  rcases h with e | ⟨y, e, hy⟩
  · cases e
  · cases e; exact hy
theorem upC_s {C : Nat → Int32} {x : Nat} {c : Int32} : upC C (.ref x) c x = c := if_pos rfl
theorem upC_n {C : Nat → Int32} {v : Value} {x : Nat} {c : Int32} (h : ¬ v = .ref x) : upC C v c x = C x := if_neg h
theorem narB {c : Int32} (h : c = 0 ∨ c = 1) : narrow .boolean (.int c) = .int c := by rcases h with rfl | rfl <;> rfl
theorem fitB {c : Int32} (h : c = 0 ∨ c = 1) : fits .boolean (.int c) = true := by rcases h with rfl | rfl <;> rfl
section
variable {G : GL} {d : Nat} {c : Nat} {F : Nat → Prop} {h0 : AH} {m : Nat} {Nd : Nat → Prop} {f : Nat → Value} {E : TE} {C : Nat → Int32} {root : Value} {sz mo : Int32} {h : AH} {Qx : Nat → AH → Prop}
theorem tCell_get {x j : Nat} (hj : j < 5) : (tCell E C x)[j]? = some (E x j) := by
  have : j = 0 ∨ j = 1 ∨ j = 2 ∨ j = 3 ∨ j = 4 := by omega
  rcases this with rfl | rfl | rfl | rfl | rfl <;> rfl
theorem TW.gE {x j : Nat} {w : Value} {K : Value → Prop} (hW : TW c F h0 m Nd f E C root sz mo h) (hx : Nd x) (e : E x j = w) (k : K w) (hj : j < 5 := by decide) : gR h x [24] j K := by
  subst e
  exact gR_of (hW.2.2.2.2.1 x hx) (by simp) (tCell_get hj) (hW.2.2.2.2.2.1 x hx j hj) k
theorem TW.gC {x : Nat} {K : Int32 → Prop} (hW : TW c F h0 m Nd f E C root sz mo h) (hx : Nd x) (k : K (C x)) : gI h x [24] 5 K := gI_of (hW.2.2.2.2.1 x hx) (by simp) rfl k
theorem TW.gT {K : Value → Prop} (hW : TW c F h0 m Nd f E C root sz mo h) (k : K root) : gR h m [23] 3 K := gR_of hW.2.2.2.1 (by simp) rfl hW.2.2.2.2.2.2.2 k
theorem TW.gZ {K : Int32 → Prop} (hW : TW c F h0 m Nd f E C root sz mo h) (k : K sz) : gI h m [23] 4 K := gI_of hW.2.2.2.1 (by simp) rfl k
theorem TW.gM {K : Int32 → Prop} (hW : TW c F h0 m Nd f E C root sz mo h) (k : K mo) : gI h m [23] 5 K := gI_of hW.2.2.2.1 (by simp) rfl k
theorem TW.g2 {K : Value → Prop} (hW : TW c F h0 m Nd f E C root sz mo h) (k : K .null) : gR h m [23] 2 K := gR_of hW.2.2.2.1 (by simp) rfl rfl k
theorem TW.nm (hW : TW c F h0 m Nd f E C root sz mo h) {x : Nat} (hx : Nd x) : x ≠ m := fun e => by
  subst e
  have h1 := hW.2.2.2.1
  rw [hW.2.2.2.2.1 x hx] at h1
  cases h1
theorem tCell_set {x j : Nat} {v : Value} (hj : j < 5) : (tCell E C x).set j v = tCell (upE E x j v) C x := by
  have : j = 0 ∨ j = 1 ∨ j = 2 ∨ j = 3 ∨ j = 4 := by omega
  rcases this with rfl | rfl | rfl | rfl | rfl <;> simp [tCell, upE]
theorem TW.putN (hW : TW c F h0 m Nd f E C root sz mo h) {x : Nat} {fs : List Value} (hx : Nd x) : Chg c F h0 (h.put x fs) := by
  obtain ⟨w1, w2, w3, w4, w5, w6, w7, w8⟩ := hW
  have a := w2.trans (Chg.put (F := fun q => q = x) (fs' := fs) (w5 x hx) (by decide) rfl) (F := F) fun q y e h9 => by
    subst h9
    rcases w3 q (Or.inr hx) with h8 | h8
    · exact h8
    · have := w1 _ _ e; omega
  exact a
theorem TW.putM (hW : TW c F h0 m Nd f E C root sz mo h) {fs : List Value} : Chg c F h0 (h.put m fs) := by
  obtain ⟨w1, w2, w3, w4, w5, w6, w7, w8⟩ := hW
  have a := w2.trans (Chg.put (F := fun q => q = m) (fs' := fs) w4 (by decide) rfl) (F := F) fun q y e h9 => by
    subst h9
    rcases w3 q (Or.inl rfl) with h8 | h8
    · exact h8
    · have := w1 _ _ e; omega
  exact a
theorem TW.pE {x j : Nat} {v : Value} {K : AH → Prop} (hW : TW c F h0 m Nd f E C root sz mo h) (hx : Nd x) (hv : v.isRef = true) (k : ∀ h', TW c F h0 m Nd f (upE E x j v) C root sz mo h' → K h') (hj : j < 5 := by decide) : pF h x [24] j v K := by
  have hN := hW.nm hx
  have hP := hW.putN (fs := (tCell E C x).set j v) hx
  obtain ⟨w1, w2, w3, w4, w5, w6, w7, w8⟩ := hW
  refine pF_of (w5 x hx) (by simp) (by show j < 6; omega) (k _ ⟨w1, hP, w3, by rw [AH.put_ne (Ne.symm hN)]; exact w4, fun y hy => ?_, fun y hy i hi => ?_, w7, w8⟩)
  · by_cases e : y = x
    · subst e
      rw [← tCell_set hj]
      exact AH.put_self (w5 y hy)
    · rw [AH.put_ne e, w5 y hy]
      simp [tCell, upE, e]
  · unfold upE
    split
    · exact hv
    · exact w6 y hy i hi
theorem TW.pC {x : Nat} {k : Int32} {K : AH → Prop} (hW : TW c F h0 m Nd f E C root sz mo h) (hx : Nd x) (hk : k = 0 ∨ k = 1) (HK : ∀ h', TW c F h0 m Nd f E (upC C (.ref x) k) root sz mo h' → K h') : pF h x [24] 5 (.int k) K := by
  have hN := hW.nm hx
  have hP := hW.putN (fs := (tCell E C x).set 5 (.int k)) hx
  obtain ⟨w1, w2, w3, w4, w5, w6, w7, w8⟩ := hW
  refine pF_of (w5 x hx) (by simp) (by show 5 < 6; omega) (HK _ ⟨w1, hP, w3, by rw [AH.put_ne (Ne.symm hN)]; exact w4, fun y hy => ?_, w6, fun y => ?_, w8⟩)
  · by_cases e : y = x
    · subst e
      have e2 : tCell E (upC C (.ref y) k) y = (tCell E C y).set 5 (.int k) := by simp [tCell, upC]
      rw [e2]
      exact AH.put_self (w5 y hy)
    · rw [AH.put_ne e, w5 y hy]
      simp [tCell, upC_n (show ¬ Value.ref x = .ref y from fun e9 => by cases e9; exact e rfl)]
  · unfold upC
    split
    · exact hk
    · exact w7 y
theorem TW.pR {v : Value} {K : AH → Prop} (hW : TW c F h0 m Nd f E C root sz mo h) (hv : v.isRef = true) (k : ∀ h', TW c F h0 m Nd f E C v sz mo h' → K h') : pF h m [23] 3 v K := by
  have hN : ∀ x, Nd x → x ≠ m := fun x hx => hW.nm hx
  have hP := hW.putM (fs := (mCell f root sz mo).set 3 v)
  obtain ⟨w1, w2, w3, w4, w5, w6, w7, w8⟩ := hW
  exact pF_of w4 (by simp) (by show 3 < 9; omega) (k _ ⟨w1, hP, w3, AH.put_self w4, fun y hy => by rw [AH.put_ne (hN y hy)]; exact w5 y hy, w6, w7, hv⟩)
theorem TW.pZ {v : Int32} {K : AH → Prop} (hW : TW c F h0 m Nd f E C root sz mo h) (k : ∀ h', TW c F h0 m Nd f E C root v mo h' → K h') : pF h m [23] 4 (.int v) K := by
  have hN : ∀ x, Nd x → x ≠ m := fun x hx => hW.nm hx
  have hP := hW.putM (fs := (mCell f root sz mo).set 4 (.int v))
  obtain ⟨w1, w2, w3, w4, w5, w6, w7, w8⟩ := hW
  exact pF_of w4 (by simp) (by show 4 < 9; omega) (k _ ⟨w1, hP, w3, AH.put_self w4, fun y hy => by rw [AH.put_ne (hN y hy)]; exact w5 y hy, w6, w7, w8⟩)
theorem TW.pM {v : Int32} {K : AH → Prop} (hW : TW c F h0 m Nd f E C root sz mo h) (k : ∀ h', TW c F h0 m Nd f E C root sz v h' → K h') : pF h m [23] 5 (.int v) K := by
  have hN : ∀ x, Nd x → x ≠ m := fun x hx => hW.nm hx
  have hP := hW.putM (fs := (mCell f root sz mo).set 5 (.int v))
  obtain ⟨w1, w2, w3, w4, w5, w6, w7, w8⟩ := hW
  exact pF_of w4 (by simp) (by show 5 < 9; omega) (k _ ⟨w1, hP, w3, AH.put_self w4, fun y hy => by rw [AH.put_ne (hN y hy)]; exact w5 y hy, w6, w7, w8⟩)
/-- the same picture in other words -/
theorem TW.cong {Nd' : Nat → Prop} {E' : TE} (hW : TW c F h0 m Nd f E C root sz mo h) (hN : ∀ x, Nd' x → Nd x) (hE : ∀ x, Nd' x → ∀ j, j < 5 → E' x j = E x j) : TW c F h0 m Nd' f E' C root sz mo h := by
  obtain ⟨w1, w2, w3, w4, w5, w6, w7, w8⟩ := hW
  refine ⟨w1, w2, fun x hx => w3 x (hx.imp id (hN x)), w4, fun x hx => ?_, fun x hx j hj => by rw [hE x hx j hj]; exact w6 x (hN x hx) j hj, w7, w8⟩
  rw [w5 x (hN x hx)]
  unfold tCell
  rw [hE x hx 0 (by decide), hE x hx 1 (by decide), hE x hx 2 (by decide), hE x hx 3 (by decide), hE x hx 4 (by decide)]
theorem TW.hasK {ks : List Nat} (hW : TW c F h0 m Nd f E C root sz mo h) (hk : 23 ∈ ks) : hasKs h m ks := hasKs_of hW.2.2.2.1 hk
theorem s_par {v w : Value} {K : Value → AH → Prop} (hW : TW c F h0 m Nd f E C root sz mo h) (hv : NV Nd v) (e : fl E 4 v = w) (HK : K w h) : MF G d mi_TreeMap_parentOf 0 [v] [] h (cR K Qx) := by
  refine b_TreeMap_parentOf_0 hv.isRef ⟨fun h9 => ?_, fun x h9 => ?_⟩
  · subst h9; cases e; exact cR_mk rfl HK
  · subst h9
    exact hW.gE hv.ref rfl (cR_mk (hW.2.2.2.2.2.1 x hv.ref 4 (by decide)) (show K (E x 4) h from (show E x 4 = w from e) ▸ HK))
theorem s_lef {v w : Value} {K : Value → AH → Prop} (hW : TW c F h0 m Nd f E C root sz mo h) (hv : NV Nd v) (e : fl E 2 v = w) (HK : K w h) : MF G d mi_TreeMap_leftOf 0 [v] [] h (cR K Qx) := by
  refine b_TreeMap_leftOf_0 hv.isRef ⟨fun h9 => ?_, fun x h9 => ?_⟩
  · subst h9; cases e; exact cR_mk rfl HK
  · subst h9
    exact hW.gE hv.ref rfl (cR_mk (hW.2.2.2.2.2.1 x hv.ref 2 (by decide)) (show K (E x 2) h from (show E x 2 = w from e) ▸ HK))
theorem s_rig {v w : Value} {K : Value → AH → Prop} (hW : TW c F h0 m Nd f E C root sz mo h) (hv : NV Nd v) (e : fl E 3 v = w) (HK : K w h) : MF G d mi_TreeMap_rightOf 0 [v] [] h (cR K Qx) := by
  refine b_TreeMap_rightOf_0 hv.isRef ⟨fun h9 => ?_, fun x h9 => ?_⟩
  · subst h9; cases e; exact cR_mk rfl HK
  · subst h9
    exact hW.gE hv.ref rfl (cR_mk (hW.2.2.2.2.2.1 x hv.ref 3 (by decide)) (show K (E x 3) h from (show E x 3 = w from e) ▸ HK))
theorem s_col {v : Value} {K : Int32 → AH → Prop} (hW : TW c F h0 m Nd f E C root sz mo h) (hv : NV Nd v) (HK : K (fcl C v) h) : MF G d mi_TreeMap_colorOf 0 [v] [] h (cI K Qx) := by
  refine b_TreeMap_colorOf_0 hv.isRef ⟨fun h9 => ?_, fun x h9 => ?_⟩
  · subst h9; exact cI_mk HK
  · subst h9
    exact hW.gC hv.ref ⟨narB (hW.2.2.2.2.2.2.1 x), cI_mk HK⟩
theorem s_sco {v : Value} {k : Int32} {K : AH → Prop} (hW : TW c F h0 m Nd f E C root sz mo h) (hv : NV Nd v) (hk : k = 0 ∨ k = 1) (HK : ∀ h', TW c F h0 m Nd f E (upC C v k) root sz mo h' → K h') : MF G d mi_TreeMap_setColor 0 [v, .int k] [] h (cV K Qx) := by
  refine b_TreeMap_setColor_0 hv.isRef ⟨fun h9 => ?_, fun x h9 => ?_⟩
  · subst h9
    have e : upC C .null k = C := funext fun x => if_neg fun h9 => by cases h9
    exact cV_mk (HK h (by rw [e]; exact hW))
  · subst h9
    exact ⟨narB hk, fitB hk, hW.pC hv.ref hk fun h' hW' => cV_mk (HK h' hW')⟩
end
section
variable {A B : Int} {E : TE} {Nd : Nat → Prop} {root : Value} {g : TG}
theorem TOK.nv (h : TOK A B E Nd root g) {x : Nat} (hx : Nd x) : NV Nd (E x 2) ∧ NV Nd (E x 3) ∧ NV Nd (E x 4) := by
  obtain ⟨a, b, c, d, e, f, k⟩ := h.2 x hx
  refine ⟨?_, ?_, ?_⟩
  · rcases e with e | ⟨y, e, hy, -⟩
    · exact Or.inl e
    · exact Or.inr ⟨y, e, hy⟩
  · rcases f with e | ⟨y, e, hy, -⟩
    · exact Or.inl e
    · exact Or.inr ⟨y, e, hy⟩
  · rcases k with ⟨e, -⟩ | ⟨y, e, hy, -⟩
    · exact Or.inl e
    · exact Or.inr ⟨y, e, hy⟩
theorem TOK.nvf (h : TOK A B E Nd root g) {v : Value} (hv : NV Nd v) : NV Nd (fl E 2 v) ∧ NV Nd (fl E 3 v) ∧ NV Nd (fl E 4 v) := by
  rcases hv with rfl | ⟨x, rfl, hx⟩
  · exact ⟨Or.inl rfl, Or.inl rfl, Or.inl rfl⟩
  · exact h.nv hx
theorem TOK.rootV (h : TOK A B E Nd root g) : NV Nd root := by
  rcases h.1 with ⟨e, -⟩ | ⟨r, e, hr, -⟩
  · exact Or.inl e
  · exact Or.inr ⟨r, e, hr⟩
theorem TOK.rootS (h : TOK A B E Nd root g) {x : Nat} (hx : Nd x) : ∃ r, root = .ref r ∧ Nd r ∧ E r 4 = .null ∧ g.2.1 r = A ∧ g.2.2 r = B := by
  rcases h.1 with ⟨e, h9⟩ | ⟨r, e, hr, h9⟩
  · exact absurd hx (h9 x)
  · exact ⟨r, e, hr, h9⟩
theorem rotE_0 {p r : Nat} (hr2 : E r 2 = .null) (hp4 : E p 4 = .null) (hpr : p ≠ r) : upE (upE (upE (upE E p 3 (E r 2)) r 4 (E p 4)) r 2 (.ref p)) p 4 (.ref r) = rotE E p r := by
  funext y j
  unfold upE rotE
  grind
theorem rotE_1 {p r q : Nat} (hr2 : E r 2 = .null) (hp4 : E p 4 = .ref q) (hpr : p ≠ r) (h2 : E q 2 = .ref p) (hqp : q ≠ p) (hqr : q ≠ r) : upE (upE (upE (upE (upE E p 3 (E r 2)) r 4 (E p 4)) q 2 (.ref r)) r 2 (.ref p)) p 4 (.ref r) = rotE E p r := by
  funext y j
  unfold upE rotE
  grind
theorem rotE_2 {p r q : Nat} (hr2 : E r 2 = .null) (hp4 : E p 4 = .ref q) (hpr : p ≠ r) (h2 : ¬ E q 2 = .ref p) (hqp : q ≠ p) (hqr : q ≠ r) : upE (upE (upE (upE (upE E p 3 (E r 2)) r 4 (E p 4)) q 3 (.ref r)) r 2 (.ref p)) p 4 (.ref r) = rotE E p r := by
  funext y j
  unfold upE rotE
  grind
theorem rotE_3 {p r s : Nat} (hr2 : E r 2 = .ref s) (hp4 : E p 4 = .null) (hpr : p ≠ r) (hsp : s ≠ p) (hsr : s ≠ r) : upE (upE (upE (upE (upE E p 3 (E r 2)) s 4 (.ref p)) r 4 (E p 4)) r 2 (.ref p)) p 4 (.ref r) = rotE E p r := by
  funext y j
  unfold upE rotE
  grind
theorem rotE_4 {p r q s : Nat} (hr2 : E r 2 = .ref s) (hp4 : E p 4 = .ref q) (hpr : p ≠ r) (hsp : s ≠ p) (hsr : s ≠ r) (h2 : E q 2 = .ref p) (hqp : q ≠ p) (hqr : q ≠ r) : upE (upE (upE (upE (upE (upE E p 3 (E r 2)) s 4 (.ref p)) r 4 (E p 4)) q 2 (.ref r)) r 2 (.ref p)) p 4 (.ref r) = rotE E p r := by
  funext y j
  unfold upE rotE
  grind (splits := 24)
theorem rotE_5 {p r q s : Nat} (hr2 : E r 2 = .ref s) (hp4 : E p 4 = .ref q) (hpr : p ≠ r) (hsp : s ≠ p) (hsr : s ≠ r) (h2 : ¬ E q 2 = .ref p) (hqp : q ≠ p) (hqr : q ≠ r) : upE (upE (upE (upE (upE (upE E p 3 (E r 2)) s 4 (.ref p)) r 4 (E p 4)) q 3 (.ref r)) r 2 (.ref p)) p 4 (.ref r) = rotE E p r := by
  funext y j
  unfold upE rotE
  grind (splits := 24)
theorem rotM_0 {p r : Nat} (hr2 : E r 3 = .null) (hp4 : E p 4 = .null) (hpr : p ≠ r) : upE (upE (upE (upE E p 2 (E r 3)) r 4 (E p 4)) r 3 (.ref p)) p 4 (.ref r) = miE (rotE (miE E) p r) := by
  funext y j
  unfold upE miE rotE
  grind (splits := 24)
theorem rotM_1 {p r q : Nat} (hr2 : E r 3 = .null) (hp4 : E p 4 = .ref q) (hpr : p ≠ r) (h2 : E q 3 = .ref p) (hqp : q ≠ p) (hqr : q ≠ r) : upE (upE (upE (upE (upE E p 2 (E r 3)) r 4 (E p 4)) q 3 (.ref r)) r 3 (.ref p)) p 4 (.ref r) = miE (rotE (miE E) p r) := by
  funext y j
  unfold upE miE rotE
  grind (splits := 24)
theorem rotM_2 {p r q : Nat} (hr2 : E r 3 = .null) (hp4 : E p 4 = .ref q) (hpr : p ≠ r) (h2 : ¬ E q 3 = .ref p) (hqp : q ≠ p) (hqr : q ≠ r) : upE (upE (upE (upE (upE E p 2 (E r 3)) r 4 (E p 4)) q 2 (.ref r)) r 3 (.ref p)) p 4 (.ref r) = miE (rotE (miE E) p r) := by
  funext y j
  unfold upE miE rotE
  grind (splits := 24)
theorem rotM_3 {p r s : Nat} (hr2 : E r 3 = .ref s) (hp4 : E p 4 = .null) (hpr : p ≠ r) (hsp : s ≠ p) (hsr : s ≠ r) : upE (upE (upE (upE (upE E p 2 (E r 3)) s 4 (.ref p)) r 4 (E p 4)) r 3 (.ref p)) p 4 (.ref r) = miE (rotE (miE E) p r) := by
  funext y j
  unfold upE miE rotE
  grind (splits := 24)
theorem rotM_4 {p r q s : Nat} (hr2 : E r 3 = .ref s) (hp4 : E p 4 = .ref q) (hpr : p ≠ r) (hsp : s ≠ p) (hsr : s ≠ r) (h2 : E q 3 = .ref p) (hqp : q ≠ p) (hqr : q ≠ r) : upE (upE (upE (upE (upE (upE E p 2 (E r 3)) s 4 (.ref p)) r 4 (E p 4)) q 3 (.ref r)) r 3 (.ref p)) p 4 (.ref r) = miE (rotE (miE E) p r) := by
  funext y j
  unfold upE miE rotE
  grind (splits := 24)
theorem rotM_5 {p r q s : Nat} (hr2 : E r 3 = .ref s) (hp4 : E p 4 = .ref q) (hpr : p ≠ r) (hsp : s ≠ p) (hsr : s ≠ r) (h2 : ¬ E q 3 = .ref p) (hqp : q ≠ p) (hqr : q ≠ r) : upE (upE (upE (upE (upE (upE E p 2 (E r 3)) s 4 (.ref p)) r 4 (E p 4)) q 2 (.ref r)) r 3 (.ref p)) p 4 (.ref r) = miE (rotE (miE E) p r) := by
  funext y j
  unfold upE miE rotE
  grind (splits := 24)
end
section
variable {A B : Int} {g : TG} {G : GL} {d : Nat} {c : Nat} {F : Nat → Prop} {h0 : AH} {m : Nat} {Nd : Nat → Prop} {f : Nat → Value} {E : TE} {C : Nat → Int32} {root : Value} {sz mo : Int32} {h : AH} {Qx : Nat → AH → Prop}
theorem s_rotL32 {p r : Nat} {w : Value} {K : AH → Prop} (hW : TW c F h0 m Nd f E C root sz mo h) (hp : Nd p) (hr : Nd r) (hpr : p ≠ r) (h4 : E p 4 = w)
    (hn : w = .null → ∀ h', TW c F h0 m Nd f (upE (upE (upE E r 4 w) r 2 (.ref p)) p 4 (.ref r)) C (.ref r) sz mo h' → K h')
    (hq : ∀ q, w = .ref q → Nd q ∧ (E q 2 = .ref p → ∀ h', TW c F h0 m Nd f (upE (upE (upE (upE E r 4 w) q 2 (.ref r)) r 2 (.ref p)) p 4 (.ref r)) C root sz mo h' → K h') ∧ (¬ E q 2 = .ref p → ∀ h', TW c F h0 m Nd f (upE (upE (upE (upE E r 4 w) q 3 (.ref r)) r 2 (.ref p)) p 4 (.ref r)) C root sz mo h' → K h')) :
    MF G d mi_TreeMap_rotateLeft 32 [.ref m, .ref p, .ref r] [] h (cV K Qx) := by
  have hwr : w.isRef = true := h4 ▸ hW.2.2.2.2.2.1 p hp 4 (by decide)
  refine b_TreeMap_rotateLeft_32 rfl rfl (dR_of (hW.gE hp h4 (dR_of (hW.pE hr hwr fun h1 W1 => W1.gE hp (show upE E r 4 w p 4 = w by rw [upE_n (fun e => hpr e.1)]; exact h4) ⟨fun e => ?_, fun q e => ?_⟩))))
  · exact W1.pR rfl fun h2 W2 => W2.pE hr rfl fun h3 W3 => W3.pE hp rfl fun h4 W4 => cV_mk (hn e h4 W4)
  · obtain ⟨q1, q2, q3⟩ := hq q e
    have e4 : upE E r 4 w p 4 = .ref q := by rw [upE_n (fun e => hpr e.1)]; exact h4.trans e
    have e2 : upE E r 4 w q 2 = E q 2 := by rw [upE_n (fun e => by cases e.2)]
    refine W1.gE hp e4 (dR_of (W1.gE q1 e2 ⟨fun n2 => ?_, fun n2 => ?_⟩))
    · exact W1.gE hp e4 (dR_of (W1.pE q1 rfl fun h2 W2 => W2.pE hr rfl fun h3 W3 => W3.pE hp rfl fun h4 W4 => cV_mk (q3 n2 h4 W4)))
    · exact W1.gE hp e4 (dR_of (W1.pE q1 rfl fun h2 W2 => W2.pE hr rfl fun h3 W3 => W3.pE hp rfl fun h4 W4 => cV_mk (q2 n2 h4 W4)))
theorem s_rotL {p r : Nat} {K : AH → Prop} (hW : TW c F h0 m Nd f E C root sz mo h) (hT : TOK A B E Nd root g) (hp : Nd p) (hr : E p 3 = .ref r) (HK : ∀ h', TW c F h0 m Nd f (rotE E p r) C (rotR root E p r) sz mo h' → K h') : MF G d mi_TreeMap_rotateLeft 0 [.ref m, .ref p, .retAddr 0] [] h (cV K Qx) := by
  obtain ⟨hrN, hr4, -, -⟩ := (hT.child hp).2 hr
  have ns := hT.noself hp
  have nr := hT.noself hrN
  have hpr : p ≠ r := fun e => ns.2.2 (e ▸ hr)
  have q4 : ∀ q, E p 4 = .ref q → Nd q ∧ q ≠ p ∧ q ≠ r := fun q hq => by
    refine ⟨?_, fun e => ns.1 (e ▸ hq), fun e => ?_⟩
    · rcases (hT.nv hp).2.2 with e | ⟨y, e, hy⟩
      · rw [hq] at e; cases e
      · rw [hq] at e; cases e; exact hy
    · subst e
      obtain ⟨pa, pb, pc, pd, -, -, pk⟩ := hT.2 p hp
      rcases pk with ⟨k1, -⟩ | ⟨y, y1, y2, y3⟩
      · rw [hq] at k1; cases k1
      · rw [hq] at y1; cases y1
        obtain ⟨ra, rb, rc, rd, -⟩ := hT.2 q hrN
        obtain ⟨-, -, s1, s2⟩ := (hT.child hp).2 hr
        rcases y3 with y3 | y3
        · obtain ⟨-, -, t1, t2⟩ := (hT.child y2).1 y3
          omega
        · obtain ⟨-, -, t1, t2⟩ := (hT.child y2).2 y3
          omega
  have R0 : E p 4 = .null → rotR root E p r = .ref r := fun e => if_pos e
  have R1 : ∀ q, E p 4 = .ref q → rotR root E p r = root := fun q e => if_neg (by rw [e]; intro e9; cases e9)
  refine b_TreeMap_rotateLeft_0 rfl ⟨fun e => (by cases e), fun x e => ?_⟩
  cases e
  have hE2 : (E r 2).isRef = true := hW.2.2.2.2.2.1 r hrN 2 (by decide)
  refine hW.gE hp hr (dR_of (hW.gE hrN rfl (hW.pE hp hE2 fun h1 W1 => ?_)))
  have a2 : upE E p 3 (E r 2) r 2 = E r 2 := upE_n (fun e => by cases e.2)
  refine W1.gE hrN a2 ⟨fun e => ?_, fun s e => ?_⟩
  · refine s_rotL32 W1 hp hrN hpr (show upE E p 3 (E r 2) p 4 = E p 4 from upE_n (fun e => by cases e.2)) (fun e4 h' W' => HK h' ?_) (fun q e4 => ⟨(q4 q e4).1, fun h2 h' W' => HK h' ?_, fun h2 h' W' => HK h' ?_⟩)
    · rw [R0 e4, ← rotE_0 e e4 hpr]; exact W'
    · have h2' : E q 2 = .ref p := by rw [← h2]; exact (upE_n (fun e => by cases e.2)).symm
      rw [R1 q e4, ← rotE_1 e e4 hpr h2' (q4 q e4).2.1 (q4 q e4).2.2]; exact W'
    · have h2' : ¬ E q 2 = .ref p := fun e9 => h2 (by rw [← e9]; exact upE_n (fun e => by cases e.2))
      rw [R1 q e4, ← rotE_2 e e4 hpr h2' (q4 q e4).2.1 (q4 q e4).2.2]; exact W'
  · obtain ⟨hsN, hs4, -, -⟩ := (hT.child hrN).1 e
    have hsp : s ≠ p := fun e9 => (q4 r (by rw [← e9]; exact hs4)).2.2 rfl
    have hsr : s ≠ r := fun e9 => nr.2.1 (e9 ▸ e)
    refine W1.gE hrN (a2.trans e) (dR_of (W1.pE hsN rfl fun h2 W2 => ?_))
    refine s_rotL32 W2 hp hrN hpr (show upE (upE E p 3 (E r 2)) s 4 (.ref p) p 4 = E p 4 from (upE_n (fun e => hsp e.1.symm)).trans (upE_n (fun e => by cases e.2))) (fun e4 h' W' => HK h' ?_) (fun q e4 => ⟨(q4 q e4).1, fun h2 h' W' => HK h' ?_, fun h2 h' W' => HK h' ?_⟩)
    · rw [R0 e4, ← rotE_3 e e4 hpr hsp hsr]; exact W'
    · have h2' : E q 2 = .ref p := by rw [← h2]; exact ((upE_n (fun e => by cases e.2)).trans (upE_n (fun e => by cases e.2))).symm
      rw [R1 q e4, ← rotE_4 e e4 hpr hsp hsr h2' (q4 q e4).2.1 (q4 q e4).2.2]; exact W'
    · have h2' : ¬ E q 2 = .ref p := fun e9 => h2 (by rw [← e9]; exact (upE_n (fun e => by cases e.2)).trans (upE_n (fun e => by cases e.2)))
      rw [R1 q e4, ← rotE_5 e e4 hpr hsp hsr h2' (q4 q e4).2.1 (q4 q e4).2.2]; exact W'
end
section
variable {A B : Int} {g : TG} {G : GL} {d : Nat} {c : Nat} {F : Nat → Prop} {h0 : AH} {m : Nat} {Nd : Nat → Prop} {f : Nat → Value} {E : TE} {C : Nat → Int32} {root : Value} {sz mo : Int32} {h : AH} {Qx : Nat → AH → Prop}
theorem s_rotR32 {p r : Nat} {w : Value} {K : AH → Prop} (hW : TW c F h0 m Nd f E C root sz mo h) (hp : Nd p) (hr : Nd r) (hpr : p ≠ r) (h4 : E p 4 = w)
    (hn : w = .null → ∀ h', TW c F h0 m Nd f (upE (upE (upE E r 4 w) r 3 (.ref p)) p 4 (.ref r)) C (.ref r) sz mo h' → K h')
    (hq : ∀ q, w = .ref q → Nd q ∧ (E q 3 = .ref p → ∀ h', TW c F h0 m Nd f (upE (upE (upE (upE E r 4 w) q 3 (.ref r)) r 3 (.ref p)) p 4 (.ref r)) C root sz mo h' → K h') ∧ (¬ E q 3 = .ref p → ∀ h', TW c F h0 m Nd f (upE (upE (upE (upE E r 4 w) q 2 (.ref r)) r 3 (.ref p)) p 4 (.ref r)) C root sz mo h' → K h')) :
    MF G d mi_TreeMap_rotateRight 32 [.ref m, .ref p, .ref r] [] h (cV K Qx) := by
  have hwr : w.isRef = true := h4 ▸ hW.2.2.2.2.2.1 p hp 4 (by decide)
  refine b_TreeMap_rotateRight_32 rfl rfl (dR_of (hW.gE hp h4 (dR_of (hW.pE hr hwr fun h1 W1 => W1.gE hp (show upE E r 4 w p 4 = w by rw [upE_n (fun e => hpr e.1)]; exact h4) ⟨fun e => ?_, fun q e => ?_⟩))))
  · exact W1.pR rfl fun h2 W2 => W2.pE hr rfl fun h3 W3 => W3.pE hp rfl fun h4 W4 => cV_mk (hn e h4 W4)
  · obtain ⟨q1, q2, q3⟩ := hq q e
    have e4 : upE E r 4 w p 4 = .ref q := by rw [upE_n (fun e => hpr e.1)]; exact h4.trans e
    have e2 : upE E r 4 w q 3 = E q 3 := by rw [upE_n (fun e => by cases e.2)]
    refine W1.gE hp e4 (dR_of (W1.gE q1 e2 ⟨fun n2 => ?_, fun n2 => ?_⟩))
    · exact W1.gE hp e4 (dR_of (W1.pE q1 rfl fun h2 W2 => W2.pE hr rfl fun h3 W3 => W3.pE hp rfl fun h4 W4 => cV_mk (q3 n2 h4 W4)))
    · exact W1.gE hp e4 (dR_of (W1.pE q1 rfl fun h2 W2 => W2.pE hr rfl fun h3 W3 => W3.pE hp rfl fun h4 W4 => cV_mk (q2 n2 h4 W4)))
theorem s_rotR {p r : Nat} {K : AH → Prop} (hW : TW c F h0 m Nd f E C root sz mo h) (hT : TOK A B E Nd root g) (hp : Nd p) (hr : E p 2 = .ref r) (HK : ∀ h', TW c F h0 m Nd f (miE (rotE (miE E) p r)) C (rotR root E p r) sz mo h' → K h') : MF G d mi_TreeMap_rotateRight 0 [.ref m, .ref p, .retAddr 0] [] h (cV K Qx) := by
  obtain ⟨hrN, hr4, -, -⟩ := (hT.child hp).1 hr
  have ns := hT.noself hp
  have nr := hT.noself hrN
  have hpr : p ≠ r := fun e => ns.2.1 (e ▸ hr)
  have q4 : ∀ q, E p 4 = .ref q → Nd q ∧ q ≠ p ∧ q ≠ r := fun q hq => by
    refine ⟨?_, fun e => ns.1 (e ▸ hq), fun e => ?_⟩
    · rcases (hT.nv hp).2.2 with e | ⟨y, e, hy⟩
      · rw [hq] at e; cases e
      · rw [hq] at e; cases e; exact hy
    · subst e
      obtain ⟨pa, pb, pc, pd, -, -, pk⟩ := hT.2 p hp
      rcases pk with ⟨k1, -⟩ | ⟨y, y1, y2, y3⟩
      · rw [hq] at k1; cases k1
      · rw [hq] at y1; cases y1
        obtain ⟨ra, rb, rc, rd, -⟩ := hT.2 q hrN
        obtain ⟨-, -, s1, s2⟩ := (hT.child hp).1 hr
        rcases y3 with y3 | y3
        · obtain ⟨-, -, t1, t2⟩ := (hT.child y2).1 y3
          omega
        · obtain ⟨-, -, t1, t2⟩ := (hT.child y2).2 y3
          omega
  have R0 : E p 4 = .null → rotR root E p r = .ref r := fun e => if_pos e
  have R1 : ∀ q, E p 4 = .ref q → rotR root E p r = root := fun q e => if_neg (by rw [e]; intro e9; cases e9)
  refine b_TreeMap_rotateRight_0 rfl ⟨fun e => (by cases e), fun x e => ?_⟩
  cases e
  have hE2 : (E r 3).isRef = true := hW.2.2.2.2.2.1 r hrN 3 (by decide)
  refine hW.gE hp hr (dR_of (hW.gE hrN rfl (hW.pE hp hE2 fun h1 W1 => ?_)))
  have a2 : upE E p 2 (E r 3) r 3 = E r 3 := upE_n (fun e => by cases e.2)
  refine W1.gE hrN a2 ⟨fun e => ?_, fun s e => ?_⟩
  · refine s_rotR32 W1 hp hrN hpr (show upE E p 2 (E r 3) p 4 = E p 4 from upE_n (fun e => by cases e.2)) (fun e4 h' W' => HK h' ?_) (fun q e4 => ⟨(q4 q e4).1, fun h2 h' W' => HK h' ?_, fun h2 h' W' => HK h' ?_⟩)
    · rw [R0 e4, ← rotM_0 e e4 hpr]; exact W'
    · have h2' : E q 3 = .ref p := by rw [← h2]; exact (upE_n (fun e => by cases e.2)).symm
      rw [R1 q e4, ← rotM_1 e e4 hpr h2' (q4 q e4).2.1 (q4 q e4).2.2]; exact W'
    · have h2' : ¬ E q 3 = .ref p := fun e9 => h2 (by rw [← e9]; exact upE_n (fun e => by cases e.2))
      rw [R1 q e4, ← rotM_2 e e4 hpr h2' (q4 q e4).2.1 (q4 q e4).2.2]; exact W'
  · obtain ⟨hsN, hs4, -, -⟩ := (hT.child hrN).2 e
    have hsp : s ≠ p := fun e9 => (q4 r (by rw [← e9]; exact hs4)).2.2 rfl
    have hsr : s ≠ r := fun e9 => nr.2.2 (e9 ▸ e)
    refine W1.gE hrN (a2.trans e) (dR_of (W1.pE hsN rfl fun h2 W2 => ?_))
    refine s_rotR32 W2 hp hrN hpr (show upE (upE E p 2 (E r 3)) s 4 (.ref p) p 4 = E p 4 from (upE_n (fun e => hsp e.1.symm)).trans (upE_n (fun e => by cases e.2))) (fun e4 h' W' => HK h' ?_) (fun q e4 => ⟨(q4 q e4).1, fun h2 h' W' => HK h' ?_, fun h2 h' W' => HK h' ?_⟩)
    · rw [R0 e4, ← rotM_3 e e4 hpr hsp hsr]; exact W'
    · have h2' : E q 3 = .ref p := by rw [← h2]; exact ((upE_n (fun e => by cases e.2)).trans (upE_n (fun e => by cases e.2))).symm
      rw [R1 q e4, ← rotM_4 e e4 hpr hsp hsr h2' (q4 q e4).2.1 (q4 q e4).2.2]; exact W'
    · have h2' : ¬ E q 3 = .ref p := fun e9 => h2 (by rw [← e9]; exact (upE_n (fun e => by cases e.2)).trans (upE_n (fun e => by cases e.2)))
      rw [R1 q e4, ← rotM_5 e e4 hpr hsp hsr h2' (q4 q e4).2.1 (q4 q e4).2.2]; exact W'
end
