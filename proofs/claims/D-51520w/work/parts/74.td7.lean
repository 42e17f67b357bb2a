/-! the twin: the report -/
set_option maxRecDepth 100000
def dl : Nat → Nat → List Nat
  | 0, _ => []
  | r + 1, v => (v % 10) :: (if v / 10 = 0 then [] else dl r (v / 10))
def numS (v : Nat) : List Int32 := (dl 8 v).reverse.map fun k => i32 (48 + k)
def namS (N : Nat) : List Int32 := (List.range (lcn N)).map fun i => gLet N (i32 i)
def stoS (g : GS) (p : Int32) (i : Nat) : List Int32 := [32, 65 + (hdA g ((ordP g p).getD i 0)).1, 48 + (hdA g ((ordP g p).getD i 0)).2.1]
def stsS (g : GS) (p : Int32) : Nat → List Int32
  | 0 => []
  | i + 1 => stsS g p i ++ stoS g p i
def plS (g : GS) (k : Nat) : List Int32 := namS (plA g k).1.toNatClampNeg ++ [58] ++ numS (gsc g k).toNatClampNeg ++ stsS g (i32 k) (stn g (i32 k))
def repS (g : GS) : Nat → List Int32
  | 0 => []
  | p + 1 => repS g p ++ (if 0 < p then [47] else []) ++ plS g p
theorem dl_len : ∀ r v, (dl r v).length ≤ r := by
  intro r
  induction r with
  | zero => intro v; exact Nat.le_refl 0
  | succ r ih =>
    intro v
    have := ih (v / 10)
    unfold dl
    rw [List.length_cons]
    split
    · simp
    · omega
theorem dl_len4 {v : Nat} (h : v < 10000) : (dl 8 v).length ≤ 4 := by
  have a1 : v / 10 < 1000 := by omega
  have a2 : v / 10 / 10 < 100 := by omega
  have a3 : v / 10 / 10 / 10 < 10 := by omega
  have a4 : v / 10 / 10 / 10 / 10 = 0 := by omega
  simp only [dl, a4, if_true]
  split <;> simp
  split <;> simp
  split <;> simp
theorem namS_len (N : Nat) : (namS N).length ≤ 7 := by
  unfold namS
  rw [List.length_map, List.length_range]
  exact dg_le 7 N
theorem stsS_len (g : GS) (p : Int32) : ∀ n, (stsS g p n).length = 3 * n := by
  intro n
  induction n with
  | zero => rfl
  | succ n ih =>
    show (stsS g p n ++ stoS g p n).length = _
    rw [List.length_append, ih]
    show 3 * n + 3 = 3 * (n + 1)
    omega
theorem plS_len {g : GS} {k : Nat} (hv : GV g) (hk : k < g.pl.length) : (plS g k).length ≤ 12 + 3 * stn g (i32 k) := by
  obtain ⟨V, hV, eV⟩ := gsc_nat hv hk
  have h1 := namS_len (plA g k).1.toNatClampNeg
  have h2 := dl_len4 (v := (gsc g k).toNatClampNeg) (by rw [eV, i32_nat (by omega)]; omega)
  unfold plS numS
  rw [List.length_append, List.length_append, List.length_append, stsS_len, List.length_map, List.length_reverse]
  simp only [List.length_singleton]
  omega
theorem repS_len {g : GS} (hv : GV g) : ∀ P, P ≤ g.pl.length → (repS g P).length ≤ 13 * P + 3 * stS g P := by
  intro P
  induction P with
  | zero => intro _; exact Nat.le_refl _
  | succ P ih =>
    intro hP
    have h1 := ih (by omega)
    have h2 := plS_len hv (by omega : P < g.pl.length)
    show (repS g P ++ (if 0 < P then [47] else []) ++ plS g P).length ≤ 13 * (P + 1) + 3 * (stS g P + stn g (i32 P))
    rw [List.length_append, List.length_append]
    have h3 : (if 0 < P then [(47 : Int32)] else []).length ≤ 1 := by split <;> simp
    omega
/-- what has been written -/
def WR (R0 : List Int32) (S : TS) (out : List Int32) : Prop := S.1 28 = i32 out.length ∧ S.2 26 = out ++ R0.drop out.length ∧ out.length ≤ 400
def RsW (S S' : TS) : Prop := (∀ k, k ≠ 28 → S'.1 k = S.1 k) ∧ (∀ k, k ≠ 26 → k ≠ 27 → S'.2 k = S.2 k) ∧ TL S'
theorem RsW.refl {S : TS} (h : TL S) : RsW S S := ⟨fun _ _ => rfl, fun _ _ _ => rfl, h⟩
theorem RsW.trans {S S1 S2 : TS} (h : RsW S S1) (h1 : RsW S1 S2) : RsW S S2 := ⟨fun k hk => (h1.1 k hk).trans (h.1 k hk), fun k a b => (h1.2.1 k a b).trans (h.2.1 k a b), h1.2.2⟩
theorem RsW.row {S S' : TS} {g : GS} (h : RsW S S') (hR : TR (S.2 0) g) : TR (S'.2 0) g := by rw [h.2.1 0 (by decide) (by decide)]; exact hR
section
variable {G : GL} {d : Nat} {h0 h : AH} {m : Nat} {A : Nat → Nat} {S : TS} {g : GS} {R0 out : List Int32} {K : AH → Prop} {Qx : Nat → AH → Prop}
theorem s_writes {c : Int32} (H : TWX h0 h m A S) (hL : TL S) (h400 : R0.length = 400) (hW : WR R0 S out) (ho : out.length < 400) (HK : ∀ h' S', TWX h0 h' m A S' → RsW S S' → WR R0 S' (out ++ [c]) → S'.2 27 = S.2 27 → K h') : MF G d mi_M_writes 0 [.ref m, .int c] [] h (cV K Qx) := by
  have l26 : (S.2 26).length = 400 := hL 26 rfl
  obtain ⟨w1, w2, w3⟩ := hW
  refine b_M_writes_0 (tw_R (k := 26) H (by decide) rfl (tw_I H (by decide) rfl ?_))
  rw [w1]
  refine dR_of (tw_pA (k := 26) (n := out.length) H rfl (by decide) rfl (by omega) (by omega) fun h1 H1 => tw_I H1 (by decide) rfl ?_)
  rw [setR_1, w1, i32_succ]
  refine tw_F H1 (by decide) rfl fun h2 H2 => cV_mk (HK h2 _ H2 ⟨fun k hk => (setF_n hk), fun k a b => setR_n a, TL_setR (k := 26) hL (by rw [List.length_set]; exact l26)⟩ ⟨?_, ?_, ?_⟩ ?_)
  · rw [setF_1]; simp
  · rw [setF_2, setR_k, w2, List.set_append_right _ _ (Nat.le_refl _), Nat.sub_self, List.drop_eq_getElem_cons (by omega), List.set_cons_zero]
    simp
  · simp; omega
  · rw [setF_2, setR_n (by decide)]
theorem s_writesNumber {v : Nat} (H : TWX h0 h m A S) (hL : TL S) (h400 : R0.length = 400) (hW : WR R0 S out) (hv : v < 100000000) (ho : out.length + 8 ≤ 400) (HK : ∀ h' S', TWX h0 h' m A S' → RsW S S' → WR R0 S' (out ++ numS v) → K h') : MF G (d + 1) mi_M_writesNumber 0 [.ref m, .int (i32 v), .retAddr 0, .retAddr 0, .retAddr 0] [] h (cV K Qx) := by
  have l27 : (S.2 27).length = 8 := hL 27 rfl
  refine b_M_writesNumber_0 ?_
  -- writing the digits back
  have second : ∀ (T : List Int32) (hT : T.length ≤ 8) (x2 x3 : Int32), (∀ out', out' = out ++ T.reverse → ∀ h' S', TWX h0 h' m A S' → RsW S S' → WR R0 S' out' → K h') → ∀ c hh S1, c ≤ T.length → TWX h0 hh m A S1 → RsW S S1 → WR R0 S1 (out ++ (T.drop c).reverse) → (∀ i, i < T.length → (S1.2 27)[i]? = T[i]?) → MF G (d + 1) mi_M_writesNumber 34 [.ref m, .int (i32 v), .int x2, .int x3, .int (i32 c - 1)] [] hh (cV K Qx) := by
    intro T hT x2 x3 HK2 c
    induction c with
    | zero =>
      intro hh S1 hc HH hs hW1 hD
      refine b_M_writesNumber_34 ⟨fun _ => cV_mk (HK2 _ ?_ hh S1 HH hs hW1), fun hn => absurd (by decide) hn⟩
      rw [List.drop_zero]
    | succ c ih =>
      intro hh S1 hc HH hs hW1 hD
      rw [i32_pred]
      obtain ⟨t, ht⟩ : ∃ t, T[c]? = some t := ⟨_, List.getElem?_eq_getElem (by omega)⟩
      refine b_M_writesNumber_34 ⟨fun hn => absurd hn (i32_nn (by omega)), fun _ => tw_g (k := 27) (n := c) HH (by decide) rfl (by decide) rfl (by omega) (x := t) (by rw [hD c (by omega)]; exact ht) ⟨tw_K HH, s_writes HH hs.2.2 h400 hW1 (by rw [List.length_append, List.length_reverse, List.length_drop]; omega) fun h2 S2 H2 hs2 hW2 h27 => ?_⟩⟩
      rw [← Int32.sub_eq_add_neg]
      refine ih h2 S2 (by omega) H2 (hs.trans hs2) ?_ (fun i hi => by rw [h27]; exact hD i hi)
      have e9 : T.drop c = t :: T.drop (c + 1) := by
        obtain ⟨h8, h9⟩ := List.getElem?_eq_some_iff.mp ht
        rw [List.drop_eq_getElem_cons h8, h9]
      rw [e9, List.reverse_cons, ← List.append_assoc]
      exact hW2
  have first : ∀ r left ds hh S1, ds.length + (r + 1) = 8 → left < 10 ^ (r + 1) → TWX h0 hh m A S1 → RsW S S1 → WR R0 S1 out → (∀ i, i < ds.length → (S1.2 27)[i]? = (ds.map fun k => i32 (48 + k))[i]?) → ds ++ dl (r + 1) left = dl 8 v → ∀ u4, MF G (d + 1) mi_M_writesNumber 4 [.ref m, .int (i32 v), .int (i32 left), .int (i32 ds.length), u4] [] hh (cV K Qx) := by
    intro r
    induction r with
    | zero =>
      intro left ds hh S1 hd hl HH hs hW1 hD e u4
      have l27' : (S1.2 27).length = 8 := hs.2.2 27 rfl
      have e10 : i32 left / 10 = i32 (left / 10) := i32_div (b := 10) (by omega) (by omega) (by omega)
      have em : (48 : Int32) + (i32 left - i32 left / 10 * 10) = i32 (48 + left % 10) := by
        rw [show (10 : Int32) = i32 10 from rfl, i32_mod (by omega) (by omega) (by omega), show (48 : Int32) = i32 48 from rfl, i32_add]
      have hz : left / 10 = 0 := by omega
      refine b_M_writesNumber_4 (tw_RR (k := 27) HH (by decide) rfl (tw_pA (k := 27) (n := ds.length) HH rfl (by decide) rfl (by omega) (by omega) fun h2 H2 => ⟨fun hn => ?_, fun _ => ?_⟩))
      · rw [e10, hz] at hn
        exact absurd hn (by decide)
      · rw [em] at H2
        have e1 : dl (0 + 1) left = [left % 10] := by simp [dl]
        rw [e1] at e
        rw [i32_succ]
        have hlen : (ds ++ [left % 10]).length = ds.length + 1 := by simp
        have hT8 := dl_len 8 v
        refine second ((dl 8 v).map fun k => i32 (48 + k)) (by rw [List.length_map]; exact hT8) _ _ (fun out' eo h' S' H' hs' hW' => HK h' S' H' hs' (by rw [eo] at hW'; unfold numS; rw [List.map_reverse]; exact hW')) (ds.length + 1) h2 _ (by rw [List.length_map, ← e, hlen]; exact Nat.le_refl _) H2 (hs.trans ⟨fun _ _ => rfl, fun k a b => setR_n b, TL_setR (k := 27) hs.2.2 (by rw [List.length_set]; exact l27')⟩) ?_ ?_
        · rw [List.drop_of_length_le (by rw [List.length_map, ← e, hlen]; exact Nat.le_refl _)]
          rw [List.reverse_nil, List.append_nil]
          exact ⟨hW1.1, by rw [setR_n (by decide)]; exact hW1.2.1, hW1.2.2⟩
        · intro i hi
          rw [List.length_map, ← e, hlen] at hi
          rw [setR_k, ← e]
          by_cases e9 : i = ds.length
          · subst e9
            rw [gS_e (by omega)]; simp
          · rw [gS_n (Ne.symm e9), hD i (by omega)]
            rw [List.map_append, List.getElem?_append_left (by rw [List.length_map]; omega)]
    | succ r ih =>
      intro left ds hh S1 hd hl HH hs hW1 hD e u4
      have hpw : (10 : Nat) ^ (r + 1 + 1) ≤ 10 ^ 8 := Nat.pow_le_pow_right (by omega) (by omega)
      have hl8 : left < 100000000 := Nat.lt_of_lt_of_le hl hpw
      have l27' : (S1.2 27).length = 8 := hs.2.2 27 rfl
      have e10 : i32 left / 10 = i32 (left / 10) := i32_div (b := 10) (by omega) (by omega) (by omega)
      have em : (48 : Int32) + (i32 left - i32 left / 10 * 10) = i32 (48 + left % 10) := by
        rw [show (10 : Int32) = i32 10 from rfl, i32_mod (by omega) (by omega) (by omega), show (48 : Int32) = i32 48 from rfl, i32_add]
      refine b_M_writesNumber_4 (tw_RR (k := 27) HH (by decide) rfl (tw_pA (k := 27) (n := ds.length) HH rfl (by decide) rfl (by omega) (by omega) fun h2 H2 => ?_))
      rw [em] at H2
      rw [e10]
      have hs2 : RsW S (setR S1 27 ((S1.2 27).set ds.length (i32 (48 + left % 10)))) := hs.trans ⟨fun _ _ => rfl, fun k a b => setR_n b, TL_setR (k := 27) hs.2.2 (by rw [List.length_set]; exact l27')⟩
      have hW2 : WR R0 (setR S1 27 ((S1.2 27).set ds.length (i32 (48 + left % 10)))) out := ⟨hW1.1, by rw [setR_n (by decide)]; exact hW1.2.1, hW1.2.2⟩
      have hlen : (ds ++ [left % 10]).length = ds.length + 1 := by simp
      have hD2 : ∀ i, i < ds.length + 1 → ((setR S1 27 ((S1.2 27).set ds.length (i32 (48 + left % 10)))).2 27)[i]? = ((ds ++ [left % 10]).map fun k => i32 (48 + k))[i]? := by
        intro i hi
        rw [setR_k]
        by_cases e9 : i = ds.length
        · subst e9
          rw [gS_e (by omega)]; simp
        · rw [gS_n (Ne.symm e9), hD i (by omega)]
          rw [List.map_append, List.getElem?_append_left (by rw [List.length_map]; omega)]
      by_cases hz : left / 10 = 0
      · refine ⟨fun hn => ?_, fun _ => ?_⟩
        · rw [hz] at hn
          exact absurd hn (by decide)
        · have e1 : dl (r + 1 + 1) left = [left % 10] := by
            show (left % 10) :: (if left / 10 = 0 then [] else dl (r + 1) (left / 10)) = _
            rw [if_pos hz]
          rw [e1] at e
          rw [i32_succ]
          have hT8 := dl_len 8 v
          refine second ((dl 8 v).map fun k => i32 (48 + k)) (by rw [List.length_map]; exact hT8) _ _ (fun out' eo h' S' H' hs' hW' => HK h' S' H' hs' (by rw [eo] at hW'; unfold numS; rw [List.map_reverse]; exact hW')) (ds.length + 1) h2 _ (by rw [List.length_map, ← e, hlen]; exact Nat.le_refl _) H2 hs2 ?_ ?_
          · rw [List.drop_of_length_le (by rw [List.length_map, ← e, hlen]; exact Nat.le_refl _)]
            rw [List.reverse_nil, List.append_nil]
            exact hW2
          · intro i hi
            rw [List.length_map, ← e, hlen] at hi
            rw [← e]
            exact hD2 i hi
      · refine ⟨fun _ => ?_, fun hn => absurd ((i32_lt (a := 0) (by omega) (by omega)).mpr (by omega)) hn⟩
        have e1 : dl (r + 1 + 1) left = (left % 10) :: dl (r + 1) (left / 10) := by
          show (left % 10) :: (if left / 10 = 0 then [] else dl (r + 1) (left / 10)) = _
          rw [if_neg hz]
        rw [i32_succ, ← hlen]
        refine ih (left / 10) (ds ++ [left % 10]) h2 _ (by rw [hlen]; omega) ?_ H2 hs2 hW2 (by rw [hlen]; exact hD2) ?_ _
        · rw [Nat.pow_succ] at hl
          exact Nat.div_lt_of_lt_mul (by rw [Nat.mul_comm]; exact hl)
        · rw [List.append_assoc, ← e, e1]; rfl
  exact first 7 v [] h S rfl (by omega) H (RsW.refl hL) hW (fun i hi => absurd hi (by simp)) rfl _
end
