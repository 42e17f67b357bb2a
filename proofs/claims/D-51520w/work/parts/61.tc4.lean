/-! the twin's reader: orders -/
set_option maxRecDepth 100000
/-- an order: its kind, two names, two numbers (of "again": how often, where it ends) -/
abbrev OD : Type := Int32 × Int32 × Int32 × Int32 × Int32
theorem bindP_ok {α β : Type} {a : α} {p : PK} {f : α → PK → PR β} : bindP (.inr (a, p)) f = f a p := rfl
theorem bindP_er {α β : Type} {e : Int32 × Nat} {f : α → PK → PR β} : bindP (.inl e : PR α) f = .inl e := rfl
def kdOf (b : List Int32) (p : PK) : Int32 := if isKw b p (sbs "bid") then 0 else if isKw b p (sbs "hammer") then 1 else if isKw b p (sbs "sell") then 2 else if isKw b p (sbs "swap") then 3 else if isKw b p (sbs "again") then 4 else -1
def pSto (b : List Int32) (n : Nat) (cp : Int32) (p : PK) : PR Int32 := bindP (pNum b n cp 0 5 p) fun f p1 => bindP (pNum b n cp 1 9 p1) fun v p2 => .inr (10 * f + v, p2)
def pSng (b : List Int32) (n : Nat) (cp : Int32) (kd : Int32) (p : PK) : PR OD := if kd = 1 then .inr ((1, 0, 0, 0, 0), p) else bindP (pNam b n cp p) fun nm p1 => if kd = 0 then bindP (pNum b n cp 0 9999 p1) fun v p2 => .inr ((0, nm, 0, v, 0), p2) else bindP (pSto b n cp p1) fun st p2 => if kd = 2 then .inr ((2, nm, 0, st, 0), p2) else bindP (pNam b n cp p2) fun nm2 p3 => bindP (pSto b n cp p3) fun st2 p4 => .inr ((3, nm, nm2, st, st2), p4)
/-- "again": its times, the orders within -/
def pAgn (b : List Int32) (n : Nat) (cp : Int32) (rec : List OD → Nat → PK → PR (List OD)) (os : List OD) (w : Nat) (p : PK) : PR (List OD) :=
  bindP (pNum b n cp 0 20 p) fun t p1 => if isSg b n p1 40 then (if w < 2 then bindP (rec (os ++ [(4, 0, 0, t, 0)]) (w + 1) (nxt b n cp p1)) fun os2 p2 => bindP (pSig b n cp 41 p2) fun _ p3 => .inr (os2.set os.length (4, 0, 0, t, i32 os2.length), p3) else .inl (4, p1.2.1)) else .inl (1, p1.2.1)
/-- one order -/
def pOr1 (b : List Int32) (n : Nat) (cp : Int32) (rec : List OD → Nat → PK → PR (List OD)) (os : List OD) (w : Nat) (p : PK) : PR (List OD) :=
  if kdOf b p = -1 then .inl (1, p.2.1) else if os.length < 30 then
    bindP (if kdOf b p = 4 then pAgn b n cp rec os w (nxt b n cp p) else bindP (pSng b n cp (kdOf b p) (nxt b n cp p)) fun o p1 => .inr (os ++ [o], p1))
    fun os3 p4 => bindP (pSig b n cp 59 p4) fun _ p5 => .inr (os3, p5)
  else .inl (4, p.2.1)
def pOrs (b : List Int32) (n : Nat) (cp : Int32) : Nat → List OD → Nat → PK → PR (List OD)
  | 0, os, _, p => .inr (os, p)
  | r + 1, os, w, p => if p.2.2.1 = 0 then .inr (os, p) else if isSg b n p 41 then .inr (os, p) else
    bindP (pOr1 b n cp (pOrs b n cp r) os w p) fun os3 p5 => pOrs b n cp r os3 w p5
theorem bindP_inv {α β : Type} {x : PR α} {f : α → PK → PR β} {v : β × PK} (h : bindP x f = .inr v) : ∃ a p, x = .inr (a, p) ∧ f a p = .inr v := by
  unfold bindP at h
  split at h
  · cases h
  · exact ⟨_, _, rfl, h⟩
theorem pOr1_pre {b : List Int32} {n : Nat} {cp : Int32} {rec : List OD → Nat → PK → PR (List OD)} (hrec : ∀ os w p os' p', rec os w p = .inr (os', p') → ∃ l, os' = os ++ l) {os : List OD} {w : Nat} {p : PK} {os' : List OD} {p' : PK} (h : pOr1 b n cp rec os w p = .inr (os', p')) : ∃ o l, os' = os ++ (o :: l) := by
  unfold pOr1 at h
  split at h
  · cases h
  · split at h
    · obtain ⟨os3, p4, h1, h2⟩ := bindP_inv h
      obtain ⟨u, p5, h3, h4⟩ := bindP_inv h2
      cases h4
      split at h1
      · unfold pAgn at h1
        obtain ⟨t, p1, h5, h6⟩ := bindP_inv h1
        split at h6
        · split at h6
          · obtain ⟨os2, p2, h7, h8⟩ := bindP_inv h6
            obtain ⟨u, p3, h9, h10⟩ := bindP_inv h8
            cases h10
            obtain ⟨l, rfl⟩ := hrec _ _ _ _ _ h7
            refine ⟨(4, 0, 0, t, i32 (os ++ [(4, 0, 0, t, 0)] ++ l).length), l, ?_⟩
            rw [List.append_assoc, List.set_append_right _ _ (Nat.le_refl _), Nat.sub_self]
            rfl
          · cases h6
        · cases h6
      · obtain ⟨o, p1, h5, h6⟩ := bindP_inv h1
        cases h6
        exact ⟨o, [], rfl⟩
    · cases h
theorem pOrs_pre {b : List Int32} {n : Nat} {cp : Int32} : ∀ r os w p os' p', pOrs b n cp r os w p = .inr (os', p') → ∃ l, os' = os ++ l := by
  intro r
  induction r with
  | zero =>
    intro os w p os' p' h
    cases h
    exact ⟨[], by simp⟩
  | succ r ih =>
    intro os w p os' p' h
    unfold pOrs at h
    split at h
    · cases h; exact ⟨[], by simp⟩
    · split at h
      · cases h; exact ⟨[], by simp⟩
      · obtain ⟨os3, p5, h1, h2⟩ := bindP_inv h
        obtain ⟨o, l, rfl⟩ := pOr1_pre ih h1
        obtain ⟨l2, rfl⟩ := ih _ _ _ _ _ h2
        exact ⟨o :: l ++ l2, by simp⟩
/-- order k as the twin holds it -/
def OdAt (S : TS) (k : Nat) (o : OD) : Prop := (S.2 17)[k]? = some o.1 ∧ (¬ o.1 = 1 → ¬ o.1 = 4 → (S.2 18)[k]? = some o.2.1) ∧ (o.1 = 3 → (S.2 19)[k]? = some o.2.2.1) ∧ (¬ o.1 = 1 → (S.2 20)[k]? = some o.2.2.2.1) ∧ (o.1 = 3 ∨ (o.1 = 4 ∧ ¬ o.2.2.2.2 = 0) → (S.2 21)[k]? = some o.2.2.2.2)
theorem setR_at {S : TS} {a j c k : Nat} {v : Int32} (h : j ≠ k) : ((setR S a ((S.2 a).set j v)).2 c)[k]? = (S.2 c)[k]? := by
  by_cases e : c = a
  · subst e; rw [setR_k, List.getElem?_set_ne h]
  · rw [setR_n e]
theorem OdAt.set {S : TS} {a j k : Nat} {v : Int32} {o : OD} (h : OdAt S k o) (hj : j ≠ k) : OdAt (setR S a ((S.2 a).set j v)) k o := by
  unfold OdAt
  rw [setR_at hj, setR_at hj, setR_at hj, setR_at hj, setR_at hj]
  exact h
theorem OdAt.F {S : TS} {k a : Nat} {x : Int32} {o : OD} (h : OdAt S k o) : OdAt (setF S a x) k o := h
def Ods (S : TS) (os : List OD) : Prop := ∀ k o, os[k]? = some o → OdAt S k o
theorem Ods.set {S : TS} {a j : Nat} {v : Int32} {os : List OD} (h : Ods S os) (hj : os.length ≤ j) : Ods (setR S a ((S.2 a).set j v)) os := fun k o hk =>
  (h k o hk).set (by have := (List.getElem?_eq_some_iff.mp hk).1; omega)
theorem Ods.add {S : TS} {os : List OD} {o : OD} (h : Ods S os) (ho : OdAt S os.length o) : Ods S (os ++ [o]) := fun k o' hk => by
  by_cases e : k < os.length
  · rw [List.getElem?_append_left e] at hk; exact h k o' hk
  · have hlt := (List.getElem?_eq_some_iff.mp hk).1
    simp only [List.length_append, List.length_singleton] at hlt
    have e2 : k = os.length := by omega
    subst e2
    have : o = o' := by simpa using hk
    subst this
    exact ho
/-- only orders have been written -/
def OrS (S S' : TS) : Prop := (∀ k, k ≠ 22 → S'.1 k = S.1 k) ∧ (∀ k, ¬ (17 ≤ k ∧ k ≤ 21) → S'.2 k = S.2 k) ∧ TL S'
theorem OrS.refl {S : TS} (h : TL S) : OrS S S := ⟨fun _ _ => rfl, fun _ _ => rfl, h⟩
theorem OrS.trans {S S1 S2 : TS} (h : OrS S S1) (h1 : OrS S1 S2) : OrS S S2 := ⟨fun k hk => (h1.1 k hk).trans (h.1 k hk), fun k hk => (h1.2.1 k hk).trans (h.2.1 k hk), h1.2.2⟩
theorem OrS.wr {S S' : TS} {a j : Nat} {v : Int32} (h : OrS S S') (ha : 17 ≤ a ∧ a ≤ 21) : OrS S (setR S' a ((S'.2 a).set j v)) :=
  ⟨h.1, fun k hk => (setR_n (by omega)).trans (h.2.1 k hk), TL_setR h.2.2 (by rw [List.length_set]; exact h.2.2 a (by rcases (by omega : a = 17 ∨ a = 18 ∨ a = 19 ∨ a = 20 ∨ a = 21) with e | e | e | e | e <;> subst e <;> rfl))⟩
theorem OrS.F {S S' : TS} {x : Int32} (h : OrS S S') : OrS S (setF S' 22 x) := ⟨fun k hk => (setF_n hk).trans (h.1 k hk), h.2.1, h.2.2⟩
theorem ErS.base {S S1 S' : TS} {c : Int32} {q : Nat} (h : ErS S1 S' c q) (h1 : OrS S S1) : ErS S S' c q :=
  ⟨h.1, h.2.1, h.2.2.1, fun k a b c e f i j => (h.2.2.2.1 k a b c e f i j).trans (h1.1 k j), fun k a b => (h.2.2.2.2.1 k (fun e => (h1.1 99 (by decide)).trans (a e)) b).trans (h1.2.1 k b), h.2.2.2.2.2⟩
theorem ErS.set {S S' : TS} {c : Int32} {q a j : Nat} {v : Int32} (h : ErS S S' c q) (ha : 17 ≤ a ∧ a ≤ 21) : ErS S (setR S' a ((S'.2 a).set j v)) c q :=
  ⟨h.1, h.2.1, h.2.2.1, h.2.2.2.1, fun k hk h1 => (setR_n (by omega)).trans (h.2.2.2.2.1 k hk h1), TL_setR h.2.2.2.2.2 (by rw [List.length_set]; exact h.2.2.2.2.2 a (by rcases (by omega : a = 17 ∨ a = 18 ∨ a = 19 ∨ a = 20 ∨ a = 21) with e | e | e | e | e <;> subst e <;> rfl))⟩
theorem pNam_ok {b : List Int32} {n : Nat} {cp : Int32} {p : PK} {v : Int32} {p' : PK} (hp : p.1 ≤ n) (h : pNam b n cp p = .inr (v, p')) : PKo n p' := by
  unfold pNam at h
  split at h
  · cases h
  · cases h; exact (nxt_ok hp).1
section
variable {G : GL} {d : Nat} {h0 h : AH} {m : Nat} {A : Nat → Nat} {S : TS} {g : GS} {n : Nat} {p : PK} {Qx : Nat → AH → Prop}
theorem e_takesStone {K : Int32 → AH → Prop} (H : TWX h0 h m A S) (hc : ¬ S.1 16 = 0) (HK : ∀ v, K v h) : MF G (d + 3) mi_M_takesStone 0 [.ref m, .retAddr 0] [] h (cI K Qx) :=
  b_M_takesStone_0 ⟨tw_K H, e_number H hc ⟨tw_K H, e_number H hc (cI_mk (HK _))⟩⟩
theorem o_takesStone {K : Int32 → AH → Prop} (H : TWX h0 h m A (tP S p)) (hL : TL S) (hf : S.1 10 = i32 n) (hn : n ≤ 500) (hp : PKo n p) (hc : S.1 16 = 0) (Ho : ∀ v p', pSto (S.2 9) n 100000 p = .inr (v, p') → PKo n p' → ∀ h', TWX h0 h' m A (tP S p') → K v h') (He : ∀ e q, pSto (S.2 9) n 100000 p = .inl (e, q) → ∀ h' S' v, TWX h0 h' m A S' → ErS S S' e q → K v h') : MF G (d + 4) mi_M_takesStone 0 [.ref m, .retAddr 0] [] h (cI K Qx) := by
  unfold pSto at Ho He
  refine b_M_takesStone_0 ⟨tw_K H, o_number H hL hf hn hp hc (fun f p1 hv h1 H1 => ?_) (fun e q hv h' S' v H' hE => ?_)⟩
  · rw [hv, bindP_ok] at Ho He
    have hp1 := pNum_ok hp.2 hv
    refine ⟨tw_K H1, o_number H1 hL hf hn hp1 hc (fun v p2 hv2 h2 H2 => cI_mk ?_) (fun e q hv2 h' S' v H' hE => cI_mk ?_)⟩
    · rw [hv2, bindP_ok] at Ho
      exact Ho _ _ rfl (pNum_ok hp1.2 hv2) h2 H2
    · rw [hv2, bindP_er] at He
      exact He _ _ rfl h' S' _ H' hE
  · rw [hv, bindP_er] at He
    exact ⟨tw_K H', e_number H' hE.c (cI_mk (He _ _ rfl h' S' _ H' hE))⟩
theorem s_orderHere {K : Int32 → AH → Prop} (H : TWX h0 h m A (tP S p)) (hb : (S.2 9).length = 500) (hn : n ≤ 500) (hp : PKo n p) (hc : S.1 16 = 0) (hK : SK G) (hs : STR G h) (HK : K (kdOf (S.2 9) p) h) : MF G (d + 6) mi_M_orderHere 0 [.ref m] [] h (cI K Qx) := by
  unfold kdOf at HK
  refine b_M_orderHere_0 ⟨tw_K H, o_isKey (w := sbs "bid") H hb hn hp hc hK (hs 21 _ _ _ rfl) (by decide) ⟨fun hz => ?_, fun hn1 => cI_mk ?_⟩⟩
  · rw [if_neg (by rw [b01_0 hz]; decide)] at HK
    refine ⟨tw_K H, o_isKey (w := sbs "hammer") H hb hn hp hc hK (hs 22 _ _ _ rfl) (by decide) ⟨fun hz => ?_, fun hn1 => cI_mk ?_⟩⟩
    · rw [if_neg (by rw [b01_0 hz]; decide)] at HK
      refine ⟨tw_K H, o_isKey (w := sbs "sell") H hb hn hp hc hK (hs 23 _ _ _ rfl) (by decide) ⟨fun hz => ?_, fun hn1 => cI_mk ?_⟩⟩
      · rw [if_neg (by rw [b01_0 hz]; decide)] at HK
        refine ⟨tw_K H, o_isKey (w := sbs "swap") H hb hn hp hc hK (hs 24 _ _ _ rfl) (by decide) ⟨fun hz => ?_, fun hn1 => cI_mk ?_⟩⟩
        · rw [if_neg (by rw [b01_0 hz]; decide)] at HK
          refine ⟨tw_K H, o_isKey (w := sbs "again") H hb hn hp hc hK (hs 25 _ _ _ rfl) (by decide) ⟨fun hz => cI_mk ?_, fun hn1 => cI_mk ?_⟩⟩
          · rw [if_neg (by rw [b01_0 hz]; decide)] at HK; exact HK
          · rw [if_pos (b01_1 hn1)] at HK; exact HK
        · rw [if_pos (b01_1 hn1)] at HK; exact HK
      · rw [if_pos (b01_1 hn1)] at HK; exact HK
    · rw [if_pos (b01_1 hn1)] at HK; exact HK
  · rw [if_pos (b01_1 hn1)] at HK; exact HK
theorem kdOf_in (b : List Int32) (p : PK) : kdOf b p = 0 ∨ kdOf b p = 1 ∨ kdOf b p = 2 ∨ kdOf b p = 3 ∨ kdOf b p = 4 ∨ kdOf b p = -1 := by
  unfold kdOf
  split
  · simp
  · split
    · simp
    · split
      · simp
      · split
        · simp
        · split <;> simp
end
