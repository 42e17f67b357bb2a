/-! search trees: the next entry, the first one, the one with a key -/
set_option maxRecDepth 100000
def KyO (h : AH) (E : TE) (Nd : Nat → Prop) (gk : Nat → Int) : Prop := ∀ x, Nd x → EI h (E x 0) (gk x)
theorem KyO.chg {h h' : AH} {E : TE} {Nd : Nat → Prop} {gk : Nat → Int} {c : Nat} {F : Nat → Prop} (hk : KyO h E Nd gk) (hc : Chg c F h h') : KyO h' E Nd gk := fun x hx => (hk x hx).chg hc
/-- v is the node with key k, nothing if there is none -/
def Fnd (Nd : Nat → Prop) (gk : Nat → Int) (k : Int) (v : Value) : Prop := (v = .null ∧ ∀ y, Nd y → ¬ gk y = k) ∨ ∃ y, v = .ref y ∧ Nd y ∧ gk y = k
theorem s_cmpI {G : GL} {h : AH} {q : Nat} {u : Value} {n1 n2 : Int} {K : Int32 → AH → Prop} {Qx : Nat → AH → Prop} (h1 : EI h (.ref q) n1) (h2 : EI h u n2) (HK : ∀ r : Int32, (r < 0 ↔ n1 < n2) → (0 < r ↔ n2 < n1) → K r h) : vL G 3 h q dsp_Comparable_compareTo [.ref q, u] (cI K Qx) := by
  obtain ⟨m, a1, rfl, r, e1, e2⟩ := h1
  obtain ⟨m', b1, rfl, r', rfl, f2⟩ := h2
  cases e1
  refine ⟨13, mi_Integer_compareTo, ⟨false, _, e2⟩, rfl, ?_⟩
  show MF G 3 mi_Integer_compareTo 0 [.ref q, .ref r'] [] h (cI K Qx)
  refine b_Integer_compareTo_0 rfl ⟨fun q9 h9 => by cases h9; exact ⟨13, false, _, f2, ck_13⟩, hasKs_of e2 (by simp), b_Integer_compareTo_2_0 rfl (gI_of e2 (by simp) rfl (dR_of (gI_of f2 (by simp) rfl (b_Integer_compare_0 ⟨fun hle => ⟨fun hne => ?_, fun he => ?_⟩, fun hgt => ?_⟩))))⟩
  · have hle' := (i32_le (by omega) (by omega)).mp hle
    have hne' : ¬ m = m' := fun h9 => hne (by rw [h9])
    exact cI_mk (cI_mk (cI_mk (HK 1 ⟨fun h9 => absurd h9 (by decide), fun h9 => by omega⟩ ⟨fun _ => by omega, fun _ => by decide⟩)))
  · have he' : m = m' := (i32_eq (by omega) (by omega)).mp he
    exact cI_mk (cI_mk (cI_mk (HK 0 ⟨fun h9 => absurd h9 (by decide), fun h9 => by omega⟩ ⟨fun h9 => absurd h9 (by decide), fun h9 => by omega⟩)))
  · have hgt' : ¬ m' ≤ m := fun h9 => hgt ((i32_le (by omega) (by omega)).mpr h9)
    exact cI_mk (cI_mk (cI_mk (HK (-1) ⟨fun _ => by omega, fun _ => by decide⟩ ⟨fun h9 => absurd h9 (by decide), fun h9 => by omega⟩)))
section
variable {A B : Int} {g : TG} {G : GL} {d : Nat} {c : Nat} {F : Nat → Prop} {h0 : AH} {m : Nat} {Nd : Nat → Prop} {f : Nat → Value} {E KV : TE} {gk : Nat → Int} {C : Nat → Int32} {root : Value} {sz mo : Int32} {h : AH} {Qx : Nat → AH → Prop} {K : Value → AH → Prop}
/-- the leftmost node below -/
theorem s_succ18 (hW : TW c F h0 m Nd f E C root sz mo h) (hT : TOK A B E Nd root g) {a : Int} (HK : ∀ y, Nd y → g.2.1 y = a → E y 2 = .null → K (.ref y) h) : ∀ (n : Nat) {y : Nat} {r0 u2 : Value}, r0.isRef = true → Nd y → g.2.1 y = a → g.2.2 y - a < n → MF G d mi_TreeMap_successor 18 [r0, .ref y, u2] [] h (cR K Qx) := by
  intro n
  induction n with
  | zero =>
    intro y r0 u2 hr hy ha hn
    obtain ⟨-, b1, b2, -⟩ := hT.2 y hy
    omega
  | succ n ih =>
    intro y r0 u2 hr hy ha hn
    obtain ⟨-, b1, b2, -⟩ := hT.2 y hy
    refine b_TreeMap_successor_18 hr rfl (dR_of (hW.gE hy rfl ⟨fun e => cR_mk rfl (HK y hy ha e), fun q e => hW.gE hy e ?_⟩))
    obtain ⟨q1, -, q3, q4⟩ := (hT.child hy).1 e
    exact ih hr q1 (by omega) (by omega)
theorem s_first9 (hW : TW c F h0 m Nd f E C root sz mo h) (hT : TOK A B E Nd root g) {a : Int} (HK : ∀ y, Nd y → g.2.1 y = a → E y 2 = .null → K (.ref y) h) : ∀ (n : Nat) {y : Nat}, Nd y → g.2.1 y = a → g.2.2 y - a < n → MF G d mi_TreeMap_getFirstEntry 9 [.ref m, .ref y] [] h (cR K Qx) := by
  intro n
  induction n with
  | zero =>
    intro y hy ha hn
    obtain ⟨-, b1, b2, -⟩ := hT.2 y hy
    omega
  | succ n ih =>
    intro y hy ha hn
    obtain ⟨-, b1, b2, -⟩ := hT.2 y hy
    refine b_TreeMap_getFirstEntry_9 rfl (dR_of (hW.gE hy rfl ⟨fun e => cR_mk rfl (HK y hy ha e), fun q e => hW.gE hy e ?_⟩))
    obtain ⟨q1, -, q3, q4⟩ := (hT.child hy).1 e
    exact ih q1 (by omega) (by omega)
theorem s_first (hW : TW c F h0 m Nd f E C root sz mo h) (hT : TOK A B E Nd root g) (HK : ∀ v, Nxt Nd g.1 A v → NV Nd v → K v h) : MF G d mi_TreeMap_getFirstEntry 0 [.ref m, .retAddr 0] [] h (cR K Qx) := by
  refine b_TreeMap_getFirstEntry_0 (hW.gT ⟨fun e => cR_mk rfl (HK .null (Or.inl ⟨rfl, fun y hy => ?_⟩) (Or.inl rfl)), fun q e => ?_⟩)
  · obtain ⟨r, r1, -⟩ := hT.rootS hy
    rw [e] at r1; cases r1
  · rcases hT.1 with ⟨h1, -⟩ | ⟨r, r1, r2, r3, r4, r5⟩
    · rw [e] at h1; cases h1
    · rw [e] at r1; cases r1
      exact s_first9 hW hT (a := A) (fun y hy ha hl => HK _ (hT.nxt1 hy ha hl) (Or.inr ⟨y, rfl, hy⟩)) (g.2.2 q - A).toNat.succ r2 r4 (by omega)
theorem s_succ42 (hW : TW c F h0 m Nd f E C root sz mo h) (hT : TOK A B E Nd root g) {x : Nat} (hx : Nd x) (hr : E x 3 = .null) (HK : ∀ v, Nxt Nd g.1 (g.1 x) v → NV Nd v → K v h) : ∀ (n : Nat) {y : Nat} {v r0 : Value}, r0.isRef = true → Nd y → E y 4 = v → g.2.2 y = g.2.2 x → (B - A) - (g.2.2 y - g.2.1 y) < n → MF G d mi_TreeMap_successor 42 [r0, v, .ref y] [] h (cR K Qx) := by
  intro n
  induction n with
  | zero =>
    intro y v r0 hr0 hy hv hh hn
    have := hT.wid2 hy
    omega
  | succ n ih =>
    intro y v r0 hr0 hy hv hh hn
    have nvv : NV Nd v := hv ▸ (hT.nv hy).2.2
    refine b_TreeMap_successor_42 hr0 nvv.isRef rfl ⟨fun e => ?_, fun q e => ?_⟩
    · refine cR_mk rfl (HK .null (hT.nxtN hx hr ?_) (Or.inl rfl))
      obtain ⟨-, -, -, -, -, -, k⟩ := hT.2 y hy
      rcases k with ⟨k1, k2⟩ | ⟨p, p1, -⟩
      · obtain ⟨r, r1, r2, r3, r4, r5⟩ := hT.rootS hy
        rw [k2] at r1; cases r1; omega
      · rw [hv, e] at p1; cases p1
    · subst e
      obtain ⟨p1, p2, p3⟩ := hT.par4 hy hv
      refine hW.gE p1 rfl ⟨fun hn2 => ?_, fun h2 => hW.gE p1 rfl ?_⟩
      · refine cR_mk rfl (HK _ (hT.nxtU hx p1 hr ?_) (Or.inr ⟨q, rfl, p1⟩))
        rcases p2 with p2 | p2
        · obtain ⟨-, -, s1, s2⟩ := (hT.child p1).1 p2
          omega
        · exact absurd p2.symm hn2
      · have w := hT.wid hy hv
        obtain ⟨-, -, s1, s2⟩ := (hT.child p1).2 h2.symm
        exact ih hr0 p1 rfl (by omega) (by omega)
theorem s_succ (hW : TW c F h0 m Nd f E C root sz mo h) (hT : TOK A B E Nd root g) {x : Nat} (hx : Nd x) (HK : ∀ v, Nxt Nd g.1 (g.1 x) v → NV Nd v → (¬ E x 3 = .null → ∃ s, v = .ref s ∧ E s 2 = .null) → K v h) : MF G d mi_TreeMap_successor 0 [.ref x, .retAddr 0, .retAddr 0] [] h (cR K Qx) := by
  refine b_TreeMap_successor_0 rfl ⟨fun e => (by cases e), fun q e => ?_⟩
  cases e
  refine hW.gE hx rfl ⟨fun e => hW.gE hx rfl ?_, fun q e => hW.gE hx e ?_⟩
  · exact s_succ42 hW hT hx e (fun v hv1 hv2 => HK v hv1 hv2 fun hn => absurd e hn) ((B - A) - (g.2.2 x - g.2.1 x)).toNat.succ rfl hx rfl rfl (by omega)
  · obtain ⟨q1, -, q3, q4⟩ := (hT.child hx).2 e
    exact s_succ18 hW hT (a := g.1 x) (fun y hy ha hl => HK _ (hT.nxtR hy ha hl) (Or.inr ⟨y, rfl, hy⟩) fun _ => ⟨y, rfl, hl⟩) (g.2.2 q - g.1 x).toNat.succ rfl q1 q3 (by omega)
theorem s_getEntry28 {k : Int} {kv : Value} : ∀ (n : Nat) {v u4 : Value} {h : AH}, TW c F h0 m Nd f E C root sz mo h → TOK A B E Nd root g → KyO h E Nd g.1 → EI h kv k → NV Nd v → Cnd E Nd g k v → (∀ x, v = .ref x → g.2.2 x - g.2.1 x < n) → (∀ v, Fnd Nd g.1 k v → NV Nd v → K v h) → MF G 4 mi_TreeMap_getEntry 28 [.ref m, kv, kv, v, u4] [] h (cR K Qx) := by
  intro n
  induction n with
  | zero =>
    intro v u4 h hW hT hKy hk hv hc hn HK
    refine b_TreeMap_getEntry_28 ?_ ?_ hv.isRef ⟨fun e => cR_mk rfl ?_, fun q e => ?_⟩
    · obtain ⟨m', -, -, r, rfl, -⟩ := hk; rfl
    · obtain ⟨m', -, -, r, rfl, -⟩ := hk; rfl
    · subst e
      exact HK .null (Or.inl ⟨rfl, fun y hy => hc.none hy⟩) (Or.inl rfl)
    · subst e
      have := hn q rfl
      obtain ⟨-, b1, b2, -⟩ := hT.2 q hv.ref
      omega
  | succ n ih =>
    intro v u4 h hW hT hKy hk hv hc hn HK
    obtain ⟨kq, hkq⟩ : ∃ q, kv = .ref q := by obtain ⟨m', -, -, r, e, -⟩ := hk; exact ⟨r, e⟩
    subst hkq
    refine b_TreeMap_getEntry_28 rfl rfl hv.isRef ⟨fun e => cR_mk rfl ?_, fun x e => ?_⟩
    · subst e
      exact HK .null (Or.inl ⟨rfl, fun y hy => hc.none hy⟩) (Or.inl rfl)
    · subst e
      have hx := hv.ref
      have hnx := hn x rfl
      obtain ⟨-, b1, b2, -⟩ := hT.2 x hx
      refine hW.gE hx rfl (dR_of (s_cmpI hk (hKy x hx) fun r hlt hgt => ?_))
      have next : ∀ w, w = (if k < g.1 x then E x 2 else E x 3) → ¬ k = g.1 x → MF G 4 mi_TreeMap_getEntry 28 [.ref m, .ref kq, .ref kq, w, .int r] [] h (cR K Qx) := fun w hw hne => by
        have hwv : NV Nd w := by
          rw [hw]
          split
          · exact (hT.nv hx).1
          · exact (hT.nv hx).2.1
        refine ih hW hT hKy hk hwv (hw ▸ hc.step hne) (fun y hy => ?_) HK
        rw [hw] at hy
        split at hy
        · obtain ⟨-, -, s1, s2⟩ := (hT.child hx).1 hy
          omega
        · obtain ⟨-, -, s1, s2⟩ := (hT.child hx).2 hy
          omega
      refine ⟨fun h0r => ⟨fun hr0 => cR_mk rfl (HK _ (Or.inr ⟨x, rfl, hx, ?_⟩) (Or.inr ⟨x, rfl, hx⟩)), fun hr0 => hW.gE hx rfl ?_⟩, fun h0r => hW.gE hx rfl ?_⟩
      · have a1 : ¬ r < 0 := Int32.not_lt.mpr h0r
        have a2 : ¬ 0 < r := Int32.not_lt.mpr hr0
        have a3 : ¬ k < g.1 x := fun h9 => a1 (hlt.mpr h9)
        have a4 : ¬ g.1 x < k := fun h9 => a2 (hgt.mpr h9)
        omega
      · have a1 := hgt.mp (Int32.not_le.mp hr0)
        exact next _ (by rw [if_neg (by omega)]) (by omega)
      · have a1 := hlt.mp (Int32.not_le.mp h0r)
        exact next _ (by rw [if_pos a1]) (by omega)
theorem s_getEntry {k : Int} {kv : Value} (hW : TW c F h0 m Nd f E C root sz mo h) (hT : TOK A B E Nd root g) (hKy : KyO h E Nd g.1) (hk : EI h kv k) (HK : ∀ v, Fnd Nd g.1 k v → NV Nd v → K v h) : MF G 4 mi_TreeMap_getEntry 0 [.ref m, kv, .retAddr 0, .retAddr 0, .retAddr 0] [] h (cR K Qx) := by
  obtain ⟨kq, hkq⟩ : ∃ q, kv = .ref q := by obtain ⟨m', -, -, r, e, -⟩ := hk; exact ⟨r, e⟩
  subst hkq
  have hcast : isC h kq "java/lang/Comparable" := by
    obtain ⟨m', -, -, r, e, h1⟩ := hk
    cases e
    exact ⟨13, _, _, h1, ck_13_Comparable⟩
  refine b_TreeMap_getEntry_0 rfl (hW.g2 ⟨fun _ => b_Objects_requireNonNull_0 (d := 2) rfl ⟨fun e => (by cases e), fun q e => ?_⟩, fun q e => (by cases e)⟩)
  cases e
  refine cR_mk rfl ⟨fun q' e' => (by cases e'; exact hcast), hW.gT ?_⟩
  refine s_getEntry28 (B - A).toNat.succ hW hT hKy hk hT.rootV hT.cnd (fun x hx => ?_) HK
  subst hx
  have := hT.wid2 hT.rootV.ref
  omega
end
