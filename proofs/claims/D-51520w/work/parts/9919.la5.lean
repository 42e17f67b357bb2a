/-! hash maps of texts (at most five, sixteen places) -/
set_option maxRecDepth 100000
def spr (y : Int32) : Int32 := y ^^^ (y.toUInt32 >>> (Int32.toUInt32 16 &&& Int32.toUInt32 31)).toInt32
def sph (bs : List Int32) : Int32 := spr (hsh bs)
def bnI (x : Int32) : Nat := x.toBitVec.toNat % 16
theorem bn_lt (x : Int32) : bnI x < 16 := Nat.mod_lt _ (by decide)
theorem bn_and (x : Int32) : ((i32 16 - 1) &&& x) = i32 (bnI x) := by
  rw [show (i32 16 - 1 : Int32) = 15 from by decide, ← Int32.toBitVec_inj]
  apply BitVec.eq_of_toNat_eq
  rw [Int32.toBitVec_and, BitVec.toNat_and]
  have h1 : (15 : Int32).toBitVec.toNat = 2 ^ 4 - 1 := rfl
  rw [h1, Nat.and_comm, Nat.and_two_pow_sub_one_eq_mod]
  have h2 := bn_lt x
  unfold i32
  show x.toBitVec.toNat % 2 ^ 4 = (BitVec.ofNat 32 (bnI x)).toNat
  rw [BitVec.toNat_ofNat]
  unfold bnI at *
  omega
/-- an entry: its node, its key and what that says, its value -/
abbrev HE : Type := Nat × Nat × List Int32 × Nat
def Chn (h : AH) : Value → List HE → Prop
  | v, [] => v = .null
  | v, e :: t => v = .ref e.1 ∧ ∃ nx : Value, nx.isRef = true ∧ h.1 e.1 = some (22, true, [.int (sph e.2.2.1), .ref e.2.1, .ref e.2.2.2, nx]) ∧ Chn h nx t
def bin (es : List HE) (b : Nat) : List HE := es.filter fun e => bnI (sph e.2.2.1) == b
theorem Chn.cong {h h' : AH} : ∀ {c : List HE} {v : Value}, Chn h v c → (∀ e, e ∈ c → h'.1 e.1 = h.1 e.1) → Chn h' v c
  | [], _, hc, _ => hc
  | e :: t, _, ⟨h1, nx, h2, h3, h4⟩, he => ⟨h1, nx, h2, by rw [he e List.mem_cons_self]; exact h3, Chn.cong h4 fun x hx => he x (List.mem_cons_of_mem _ hx)⟩
theorem Chn.ref {h : AH} {c : List HE} {v : Value} (hc : Chn h v c) : v.isRef = true := by
  cases c with
  | nil => have : v = .null := hc; rw [this]; rfl
  | cons e t => obtain ⟨h1, -⟩ := hc; rw [h1]; rfl
theorem Chn.app {h h' : AH} {l n : HE} (hn : h'.1 n.1 = some (22, true, [.int (sph n.2.2.1), .ref n.2.1, .ref n.2.2.2, .null])) (hl : h'.1 l.1 = some (22, true, [.int (sph l.2.2.1), .ref l.2.1, .ref l.2.2.2, .ref n.1])) : ∀ {c : List HE} {v : Value}, Chn h v (c ++ [l]) → (∀ e, e ∈ c → h'.1 e.1 = h.1 e.1) → Chn h' v (c ++ [l] ++ [n])
  | [], _, ⟨h1, _⟩, _ => ⟨h1, .ref n.1, rfl, hl, rfl, .null, rfl, hn, rfl⟩
  | e :: t, _, ⟨h1, nx, h2, h3, h4⟩, he => ⟨h1, nx, h2, by rw [he e List.mem_cons_self]; exact h3, Chn.app hn hl h4 fun x hx => he x (List.mem_cons_of_mem _ hx)⟩
theorem Chn.cell {h : AH} : ∀ {c : List HE} {v : Value}, Chn h v c → ∀ e, e ∈ c → ∃ nx, h.1 e.1 = some (22, true, [.int (sph e.2.2.1), .ref e.2.1, .ref e.2.2.2, nx])
  | [], _, _, e, he => (List.not_mem_nil he).elim
  | x :: t, _, ⟨h1, nx, h2, h3, h4⟩, e, he => by
    rcases List.mem_cons.mp he with rfl | he
    · exact ⟨nx, h3⟩
    · exact Chn.cell h4 e he
/-- a hash map at m; entry i has value i -/
def HMh (h : AH) (m : Nat) (es : List HE) (F : Nat → Prop) : Prop := ∃ (tab : Value) (mc thr : Int32), h.1 m = some (21, true, [.null, .null, tab, .null, .int (i32 es.length), .int mc, .int thr, .float 1061158912]) ∧
  ((tab = .null ∧ es = [] ∧ thr = 0) ∨ ∃ (tb : Nat) (sl : List Value), tab = .ref tb ∧ thr = 12 ∧ h.1 tb = some (106, true, sl) ∧ sl.length = 16 ∧ ∀ (b : Nat) (v : Value), sl[b]? = some v → Chn h v (bin es b)) ∧
  (∀ (i : Nat) (e : HE), es[i]? = some e → StrO h e.2.1 e.2.2.1 ∧ IntO h (.ref e.2.2.2) (i32 i) ∧ e.2.2.1.length < 1000000) ∧ es.length ≤ 5 ∧ (es.map fun e => e.1).Nodup ∧ ∀ x, F x ↔ (x = m ∨ tab = .ref x ∨ ∃ e, e ∈ es ∧ x = e.1)
theorem HMh.node {h : AH} {m : Nat} {es : List HE} {F : Nat → Prop} (hp : HMh h m es F) : ∀ e, e ∈ es → ∃ nx, h.1 e.1 = some (22, true, [.int (sph e.2.2.1), .ref e.2.1, .ref e.2.2.2, nx]) := by
  obtain ⟨tab, mc, thr, h1, h2, -⟩ := hp
  intro e he
  rcases h2 with ⟨-, h2, -⟩ | ⟨tb, sl, -, -, h3, h4, h5⟩
  · rw [h2] at he; exact (List.not_mem_nil he).elim
  · have hb := List.getElem?_eq_getElem (l := sl) (i := bnI (sph e.2.2.1)) (by rw [h4]; exact bn_lt _)
    exact (h5 _ _ hb).cell e (List.mem_filter.mpr ⟨he, by simp⟩)
theorem HMh.chg {h h' : AH} {m c : Nat} {es : List HE} {F F' : Nat → Prop} (hp : HMh h m es F) (hc : Chg c F' h h') (hd : ∀ x, F x → ¬ F' x) : HMh h' m es F := by
  have hn := hp.node
  obtain ⟨tab, mc, thr, h1, h2, h3, h4, h5, h6⟩ := hp
  refine ⟨tab, mc, thr, hc.2.2.2.2 _ _ h1 (show KX 21 from by decide) (hd _ ((h6 m).mpr (Or.inl rfl))), ?_, fun i e he => ⟨(h3 i e he).1.chg hc, (h3 i e he).2.1.chg hc, (h3 i e he).2.2⟩, h4, h5, h6⟩
  rcases h2 with h2 | ⟨tb, sl, e1, e2, e3, e4, e5⟩
  · exact Or.inl h2
  · refine Or.inr ⟨tb, sl, e1, e2, hc.2.2.2.2 _ _ e3 (show KX 106 from by decide) (hd _ ((h6 tb).mpr (Or.inr (Or.inl e1)))), e4, fun b v hb => (e5 b v hb).cong fun e he => ?_⟩
    have hm := (List.mem_filter.mp he).1
    obtain ⟨nx, hx⟩ := hn e hm
    rw [hx]
    exact hc.2.2.2.2 _ _ hx (show KX 22 from by decide) (hd _ ((h6 _).mpr (Or.inr (Or.inr ⟨e, hm, rfl⟩))))
theorem HMh.low {h : AH} {m : Nat} {es : List HE} {F : Nat → Prop} (hp : HMh h m es F) (hw : WFh h) : ∀ x, F x → x < h.2.1 := by
  have hn := hp.node
  obtain ⟨tab, mc, thr, h1, h2, h3, h4, h5, h6⟩ := hp
  intro x hx
  rcases (h6 x).mp hx with rfl | hx | ⟨e, he, rfl⟩
  · exact hw _ _ h1
  · rcases h2 with ⟨e1, -⟩ | ⟨tb, sl, e1, e2, e3, -⟩
    · rw [e1] at hx; cases hx
    · rw [e1] at hx; cases hx
      exact hw _ _ e3
  · obtain ⟨nx, hx⟩ := hn e he
    exact hw _ _ hx
theorem HMh.has {h : AH} {m : Nat} {es : List HE} {F : Nat → Prop} (hp : HMh h m es F) : hasKs h m [21] := by
  obtain ⟨tab, mc, thr, h1, -⟩ := hp
  exact hasKs_of h1 (by simp)
def hmF (es : List HE) (bs : List Int32) : Option HE := es.find? fun e => e.2.2.1 == bs
theorem hmF_bin {es : List HE} {bs : List Int32} : hmF (bin es (bnI (sph bs))) bs = hmF es bs := by
  unfold hmF bin
  rw [List.find?_filter]
  congr 1
  funext e
  by_cases he : e.2.2.1 = bs
  · rw [he]; simp
  · simp [he]
def hmN : Option HE → Value
  | some e => .ref e.1
  | none => .null
def hmV : Option HE → Value
  | some e => .ref e.2.2.2
  | none => .null
section
variable {G : GL} {d : Nat} {h : AH} {m q : Nat} {es : List HE} {bs : List Int32} {F : Nat → Prop} {Qx : Nat → AH → Prop}
theorem vl_strEq {q2 : Nat} {bs2 : List Int32} {K : Int32 → AH → Prop} (hK : SK G) (h1 : StrO h q bs) (h2 : StrO h q2 bs2) (hl : bs.length < 1000000) (hl2 : bs2.length < 1000000) (HK : K (b01 (decide (bs = bs2))) h) : vL G (d + 1) h q dsp_Object_equals [.ref q, .ref q2] (cI K Qx) :=
  ⟨14, mi_String_equals, h1.hk, rfl, s_strEq hK h1 h2 hl hl2 HK⟩
theorem s_hmHash {K : Int32 → AH → Prop} (hK : SK G) (hs : StrO h q bs) (hl : bs.length < 1000000) (HK : ∀ h', Chg 0 F0s h h' → h'.2 = h.2 → K (sph bs) h') : MF G (d + 4) mi_HashMap_hash 0 [.ref q, .retAddr 0] [] h (cI K Qx) :=
  b_HashMap_hash_0 rfl ⟨fun e => (by cases e), fun q1 e => (by cases e; exact ⟨14, mi_String_hashCode, hs.hk, rfl, s_hash hK hs hl fun h' c e => cI_mk (HK h' c e)⟩)⟩
theorem iO_node {h : AH} {a : Nat} {w : Bool} {fs : List Value} (hc : h.1 a = some (22, w, fs)) : iO h (.ref a) "java/util/HashMap$TreeNode" 0 := by
  refine Or.inr (Or.inr ⟨a, 22, w, fs, _, _, _, rfl, hc, rfl, by simp [ncAll], rfl⟩)
/-- a chain is searched -/
theorem s_hmLk {K : Value → AH → Prop} (hK : SK G) (hs : StrO h q bs) (hl : bs.length < 1000000) {a0 : Nat} {r2 r3 : Value} {x5 : Int32} (g2 : r2.isRef = true) (g3 : r3.isRef = true) : ∀ (t : List HE) (e : HE) (u7 : Value), Chn h (.ref e.1) (e :: t) → (∀ x, x ∈ e :: t → StrO h x.2.1 x.2.2.1 ∧ x.2.2.1.length < 1000000) → K (hmN (hmF (e :: t) bs)) h → MF G (d + 2) mi_HashMap_getNode 99 [.ref a0, .ref q, r2, r3, .ref e.1, .int x5, .int (sph bs), u7] [] h (cR K Qx) := by
  intro t
  induction t with
  | nil =>
    intro e u7 hc hst HK
    obtain ⟨-, nx, n1, n2, n3⟩ := hc
    have n3' : nx = .null := n3
    subst n3'
    obtain ⟨k1, k2⟩ := hst e List.mem_cons_self
    refine b_HashMap_getNode_99 rfl g2 g3 rfl (dR_of (gI_of n2 (by simp) rfl ⟨fun hne => gR_of n2 (by simp) rfl rfl ⟨fun _ => cR_mk rfl ?_, fun q5 e5 => by cases e5⟩, fun heq => gR_of n2 (by simp) rfl rfl ⟨fun hv => cR_mk rfl ?_, fun hv => ⟨(fun e8 => by cases e8), fun q8 e8 => ?_⟩⟩⟩))
    · have : ¬ e.2.2.1 = bs := fun e9 => hne (by rw [e9])
      have e2 : hmF [e] bs = none := by simp [hmF, this]
      rw [e2] at HK; exact HK
    · have e9 : e.2.1 = q := by cases hv; rfl
      rw [e9] at k1
      have e2 : hmF [e] bs = some e := by simp [hmF, k1.inj hs]
      rw [e2] at HK; exact HK
    · cases e8
      refine vl_strEq hK hs k1 hl k2 ⟨fun hz => gR_of n2 (by simp) rfl rfl ⟨fun _ => cR_mk rfl ?_, fun q5 e5 => by cases e5⟩, fun hnz => cR_mk rfl ?_⟩
      · have : ¬ e.2.2.1 = bs := fun e9 => of_decide_eq_false (b01_0 hz) e9.symm
        have e2 : hmF [e] bs = none := by simp [hmF, this]
        rw [e2] at HK; exact HK
      · have : e.2.2.1 = bs := (of_decide_eq_true (b01_1 hnz)).symm
        have e2 : hmF [e] bs = some e := by simp [hmF, this]
        rw [e2] at HK; exact HK
  | cons f t ih =>
    intro e u7 hc hst HK
    obtain ⟨-, nx, n1, n2, n3⟩ := hc
    have n4 := n3.1
    subst n4
    obtain ⟨k1, k2⟩ := hst e List.mem_cons_self
    have hrec : ∀ u, ¬ e.2.2.1 = bs → MF G (d + 2) mi_HashMap_getNode 99 [.ref a0, .ref q, r2, r3, .ref f.1, .int x5, .int (sph bs), u] [] h (cR K Qx) := by
      intro u hne
      refine ih f u n3 (fun x hx => hst x (List.mem_cons_of_mem _ hx)) ?_
      have e2 : hmF (e :: f :: t) bs = hmF (f :: t) bs := by
        unfold hmF
        rw [List.find?_cons_of_neg (by simp [hne])]
      rw [e2] at HK; exact HK
    refine b_HashMap_getNode_99 rfl g2 g3 rfl (dR_of (gI_of n2 (by simp) rfl ⟨fun hne => gR_of n2 (by simp) rfl rfl ⟨(fun e8 => by cases e8), fun q5 e5 => ?_⟩, fun heq => gR_of n2 (by simp) rfl rfl ⟨fun hv => cR_mk rfl ?_, fun hv => ⟨(fun e8 => by cases e8), fun q8 e8 => ?_⟩⟩⟩))
    · cases e5
      exact hrec _ fun e9 => hne (by rw [e9])
    · have e9 : e.2.1 = q := by cases hv; rfl
      rw [e9] at k1
      have e2 : hmF (e :: f :: t) bs = some e := by simp [hmF, k1.inj hs]
      rw [e2] at HK; exact HK
    · cases e8
      refine vl_strEq hK hs k1 hl k2 ⟨fun hz => gR_of n2 (by simp) rfl rfl ⟨(fun e7 => by cases e7), fun q5 e5 => ?_⟩, fun hnz => cR_mk rfl ?_⟩
      · cases e5
        exact hrec _ fun e9 => of_decide_eq_false (b01_0 hz) e9.symm
      · have : e.2.2.1 = bs := (of_decide_eq_true (b01_1 hnz)).symm
        have e2 : hmF (e :: f :: t) bs = some e := by simp [hmF, this]
        rw [e2] at HK; exact HK
theorem s_hmGet {K : Value → AH → Prop} (hK : SK G) (hp : HMh h m es F) (hs : StrO h q bs) (hl : bs.length < 1000000) (HK : ∀ h', Chg 0 F0s h h' → h'.2 = h.2 → HMh h' m es F → K (hmV (hmF es bs)) h') : MF G (d + 6) mi_HashMap_get 0 [.ref m, .ref q, .retAddr 0] [] h (cR K Qx) := by
  have hp0 := hp
  obtain ⟨tab, mc, thr, h1, h2, -⟩ := hp
  refine b_HashMap_get_0 rfl ⟨hp0.has, b_HashMap_getNode_0 rfl ?_⟩
  -- behind the search
  have fin : ∀ h', Chg 0 F0s h h' → h'.2 = h.2 → cR (fun v1 h1 => ((v1 = .null → cR K Qx (.inl (some (.null))) h1) ∧ (∀ q2, v1 = .ref q2 → gR h1 q2 [22] 2 fun v3 => cR K Qx (.inl (some (v3))) h1))) (fun q9 h9 => cR K Qx (.inr q9) h9) (.inl (some (hmN (hmF es bs)))) h' := by
    intro h' c1 c2
    have hp1 := hp0.chg c1 fun _ _ h9 => h9
    have H := HK h' c1 c2 hp1
    cases hf : hmF es bs with
    | none =>
      rw [hf] at H
      exact cR_mk rfl ⟨fun _ => cR_mk rfl H, fun q2 e => by cases e⟩
    | some e =>
      rw [hf] at H
      obtain ⟨nx, hx⟩ := hp1.node e (List.mem_of_find?_eq_some hf)
      refine cR_mk rfl ⟨(fun e9 => by cases e9), fun q2 e9 => ?_⟩
      cases e9
      exact gR_of hx (by simp) rfl rfl (cR_mk rfl H)
  rcases h2 with ⟨e1, e2, e3⟩ | ⟨tb, sl, e1, e2, e3, e4, e5⟩
  · subst e1; subst e2
    exact gR_of h1 (by simp) rfl rfl ⟨fun _ => fin h Chg.refl rfl, fun q2 e => by cases e⟩
  · subst e1
    refine gR_of h1 (by simp) rfl rfl ⟨(fun e => by cases e), fun q2 e => ?_⟩
    cases e
    refine aL_of e3 ⟨fun hle => absurd ((i32_le (a := sl.length) (b := 0) (by omega) (by omega)).mp hle) (by omega), fun _ => s_hmHash (d := d) hK hs hl fun h' c1 c2 => ?_⟩
    have hp1 := hp0.chg c1 fun _ _ h9 => h9
    have hs1 := hs.chg c1
    obtain ⟨tab', mc', thr', f1, f2, f3, -⟩ := hp1
    have m1 : h'.1 m = some (21, true, [.null, .null, .ref tb, .null, .int (i32 es.length), .int mc, .int thr, .float 1061158912]) := c1.2.2.2.2 _ _ h1 (show KX 21 from by decide) fun h9 => h9
    rw [m1] at f1
    cases f1
    rcases f2 with ⟨g1, -⟩ | ⟨tb', sl', g1, g2, g3, g4, g5⟩
    · cases g1
    cases g1
    have t1 : h'.1 tb = some (106, true, sl) := c1.2.2.2.2 _ _ e3 (show KX 106 from by decide) fun h9 => h9
    rw [g3] at t1
    cases t1
    rw [show Int32.ofNat sl.length = i32 16 from by rw [e4]; rfl, bn_and]
    have hbl : bnI (sph bs) < sl.length := by rw [e4]; exact bn_lt _
    have hb := List.getElem?_eq_getElem hbl
    have hch := g5 _ _ hb
    generalize sl[bnI (sph bs)] = v at hb hch
    have H := fin h' c1 c2
    rw [← hmF_bin] at H
    have hst : ∀ x, x ∈ bin es (bnI (sph bs)) → StrO h' x.2.1 x.2.2.1 ∧ x.2.2.1.length < 1000000 := fun x hx => by
      obtain ⟨i, hi⟩ := List.mem_iff_getElem?.mp (List.mem_filter.mp hx).1
      exact ⟨(f3 i x hi).1, (f3 i x hi).2.2⟩
    have hbr := bn_lt (sph bs)
    generalize bin es (bnI (sph bs)) = c at hch H hst
    refine aR_of g3 (i32_nn (by omega)) (by rw [i32_nat (by omega)]; exact hb) hch.ref ?_
    cases c with
    | nil =>
      have : v = .null := hch
      subst this
      exact ⟨fun _ => H, fun q7 e => by cases e⟩
    | cons e t =>
      have hch0 := hch
      obtain ⟨j1, nx, j2, j3, j4⟩ := hch
      subst j1
      obtain ⟨k1, k2⟩ := hst e List.mem_cons_self
      have hrec : ∀ u, ¬ e.2.2.1 = bs → MF G (d + 5) mi_HashMap_getNode 71 [.ref m, .ref q, .ref tb, .ref e.1, .retAddr 0, .int (i32 16), .int (sph bs), u] [] h' (cR (fun v1 h1 => ((v1 = .null → cR K Qx (.inl (some (.null))) h1) ∧ (∀ q2, v1 = .ref q2 → gR h1 q2 [22] 2 fun v3 => cR K Qx (.inl (some (v3))) h1))) (fun q9 h9 => cR K Qx (.inr q9) h9)) := by
        intro u hne
        have e2' : hmF (e :: t) bs = hmF t bs := by
          unfold hmF
          rw [List.find?_cons_of_neg (by simp [hne])]
        rw [e2'] at H
        refine b_HashMap_getNode_71 rfl rfl rfl (dR_of (gR_of j3 (by simp) rfl j2 ⟨fun e9 => ?_, fun q3 e9 => ⟨0, iO_node j3, fun _ => ?_, fun h9 => absurd rfl h9⟩⟩))
        · cases t with
          | nil => exact H
          | cons f t => rw [j4.1] at e9; cases e9
        · cases t with
          | nil => have : nx = .null := j4; rw [this] at e9; cases e9
          | cons f t =>
            have e8 := j4.1
            rw [e9] at e8
            cases e8
            rw [e9] at j4
            obtain ⟨y, hy1, hy2, hy3⟩ := H
            refine (s_hmLk (d := d + 3) (K := fun v1 h1 => ((v1 = .null → cR K Qx (.inl (some (.null))) h1) ∧ (∀ q2, v1 = .ref q2 → gR h1 q2 [22] 2 fun v3 => cR K Qx (.inl (some (v3))) h1))) hK hs1 hl rfl rfl t f u j4 (fun x hx => hst x (List.mem_cons_of_mem _ hx)) ?_)
            cases hy1
            exact hy3
      refine ⟨(fun e9 => by cases e9), fun q7 e9 => ?_⟩
      cases e9
      refine gI_of j3 (by simp) rfl ⟨fun hne => hrec _ fun e9 => hne (by rw [e9]), fun heq => gR_of j3 (by simp) rfl rfl ⟨fun hv => ?_, fun hv => ⟨(fun e8 => by cases e8), fun q12 e8 => ?_⟩⟩⟩
      · have e9 : e.2.1 = q := by cases hv; rfl
        rw [e9] at k1
        have e2' : hmF (e :: t) bs = some e := by simp [hmF, k1.inj hs1]
        rw [e2'] at H
        exact H
      · cases e8
        refine vl_strEq hK hs1 k1 hl k2 ⟨fun hz => hrec _ fun e9 => of_decide_eq_false (b01_0 hz) e9.symm, fun hnz => ?_⟩
        have : e.2.2.1 = bs := (of_decide_eq_true (b01_1 hnz)).symm
        have e2' : hmF (e :: t) bs = some e := by simp [hmF, this]
        rw [e2'] at H
        exact H
end
