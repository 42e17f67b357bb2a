/-! strings; the twin's reader: tokens -/
set_option maxRecDepth 100000
/-- a text at q: letters below 128 -/
def StrAt (h : AH) (q : Nat) (bs : List Int32) : Prop := ∃ (w w' : Bool) (a : Nat) (x y : Int32), h.1 q = some (14, w, [.ref a, .int 0, .int x, .int y]) ∧ h.1 a = some (101, w', bs.map Value.int) ∧ ∀ b, b ∈ bs → ∃ k, k < 128 ∧ b = i32 k
def sbs (s : String) : List Int32 := s.toList.map fun c => i32 c.toNat
/-- constants of the run -/
def SK (G : GL) : Prop := G.sta 3 = .int 1 ∧ (G.sta 4).isRef = true
def STR (G : GL) (h : AH) : Prop := ∀ k C i s, strAll[k]? = some (C, i, s) → StrAt h (G.str k) (sbs s)
theorem StrAt.tw {h0 h h' : AH} {m : Nat} {A A' : Nat → Nat} {S S' : TS} {q : Nat} {bs : List Int32} (H : TWX h0 h m A S) (hs : StrAt h q bs) (H' : TWX h0 h' m A S') : StrAt h' q bs := by
  obtain ⟨w, w', a, x, y, h1, h2, h3⟩ := hs
  have nq : ¬ TF m A q := by
    rintro (e | ⟨k, hk, e⟩)
    · rw [e, H.1] at h1; cases h1
    · rw [e, H.2.1 k hk] at h1
      by_cases e5 : k = 5
      · rw [show tK k = 103 from if_pos e5] at h1; cases h1
      · rw [show tK k = 100 from if_neg e5] at h1; cases h1
  have na : ¬ TF m A a := by
    rintro (e | ⟨k, hk, e⟩)
    · rw [e, H.1] at h2; cases h2
    · rw [e, H.2.1 k hk] at h2
      by_cases e5 : k = 5
      · rw [show tK k = 103 from if_pos e5] at h2; cases h2
      · rw [show tK k = 100 from if_neg e5] at h2; cases h2
  exact ⟨w, w', a, x, y, by rw [H'.2.2.2.2.2 q nq, ← H.2.2.2.2.2 q nq]; exact h1, by rw [H'.2.2.2.2.2 a na, ← H.2.2.2.2.2 a na]; exact h2, h3⟩
theorem STR.tw {G : GL} {h0 h h' : AH} {m : Nat} {A : Nat → Nat} {S S' : TS} (H : TWX h0 h m A S) (hs : STR G h) (H' : TWX h0 h' m A S') : STR G h' := fun k C i s e => (hs k C i s e).tw (A' := A) H H'
theorem byte_and : ∀ k : Fin 128, (i32 k.1 &&& 255) = i32 k.1 ∧ UInt32.toInt32 (Int32.toUInt32 (i32 k.1) % 65536) = i32 k.1 ∧ narrow .char (.int (i32 k.1)) = .int (i32 k.1) := by decide +kernel
section
variable {G : GL} {d : Nat} {h : AH} {Qx : Nat → AH → Prop}
theorem s_strlen {q : Nat} {bs : List Int32} {K : Int32 → AH → Prop} (hK : SK G) (hs : StrAt h q bs) (HK : K (i32 bs.length) h) : MF G (d + 1) mi_String_length 0 [.ref q] [] h (cI K Qx) := by
  obtain ⟨w, w', a, x, y, h1, h2, h3⟩ := hs
  have hks : hasKs h q [14] := ⟨14, by simp, w, _, h1⟩
  refine b_String_length_0 (gR_of h1 (by simp) rfl rfl (dR_of (aL_of h2 ⟨hks, b_String_coder_0 ⟨1, hK.1, fun e => absurd e (by decide), fun _ => gI_of h1 (by simp) rfl ⟨rfl, cI_mk (cI_mk ?_)⟩⟩⟩)))
  rw [List.length_map]
  have e9 : (Int32.ofNat bs.length >>> ((0 : Int32) &&& 31)) = i32 bs.length := by
    rw [show (0 : Int32) &&& 31 = 0 from by decide]
    exact Int32.shiftRight_zero
  rw [e9]; exact HK
theorem s_preCheck {i n : Int32} {v : Value} {K : Int32 → AH → Prop} (hv : v.isRef = true) (h0 : ¬ i < 0) (hi : i < n) (HK : K i h) : MF G (d + 1) mi_Preconditions_checkIndex 0 [.int i, .int n, v] [] h (cI K Qx) :=
  b_Preconditions_checkIndex_0 hv ⟨fun hn => absurd hn h0, fun _ => ⟨fun _ => cI_mk HK, fun hn => absurd hi hn⟩⟩
theorem s_charAt {q j : Nat} {bs : List Int32} {b : Int32} {K : Int32 → AH → Prop} (hK : SK G) (hs : StrAt h q bs) (hl : bs.length < 1000000) (hb : bs[j]? = some b) (HK : K b h) : MF G (d + 4) mi_String_charAt 0 [.ref q, .int (i32 j)] [] h (cI K Qx) := by
  obtain ⟨w, w', a, x, y, h1, h2, h3⟩ := hs
  have hks : hasKs h q [14] := ⟨14, by simp, w, _, h1⟩
  have hj : j < bs.length := (List.getElem?_eq_some_iff.mp hb).1
  obtain ⟨k, hk, rfl⟩ := h3 b (List.mem_of_getElem? hb)
  obtain ⟨e1, e2, e3⟩ := byte_and ⟨k, hk⟩
  refine b_String_charAt_0 ⟨hks, b_String_isLatin1_0 ⟨1, hK.1, fun e => absurd e (by decide), fun _ => gI_of h1 (by simp) rfl ⟨fun hn => absurd rfl hn, fun _ => cI_mk ⟨fun e => absurd e (by decide), fun _ => gR_of h1 (by simp) rfl rfl ?_⟩⟩⟩⟩
  refine b_StringLatin1_charAt_0 rfl (dR_of (aL_of h2 ?_))
  rw [List.length_map]
  refine b_String_checkIndex_0 ⟨hK.2, s_preCheck hK.2 (i32_nn (by omega)) ((i32_lt (by omega) (by omega)).mpr hj) (cV_mk (aI_of h2 (i32_nn (by omega)) (by rw [i32_nat (by omega)]; exact map_int_at hb) ?_))⟩
  rw [e1, e2]
  exact ⟨e3, cI_mk ⟨e3, cI_mk HK⟩⟩
end
/-- where a reader stands: behind the token, its begin, its sort, the number read last -/
abbrev PK : Type := Nat × Nat × Int32 × Int32
def PKo (n : Nat) (p : PK) : Prop := p.2.1 ≤ p.1 ∧ p.1 ≤ n
def sn (b : List Int32) (n k : Nat) : Int32 := if k < n then b.getD k 0 else -1
def skW (b : List Int32) (n : Nat) : Nat → Nat → Nat
  | 0, s => s
  | r + 1, s => if sn b n s = 32 then skW b n r (s + 1) else if sn b n s = 10 then skW b n r (s + 1) else s
def skA (b : List Int32) (n : Nat) : Nat → Nat → Nat
  | 0, s => s
  | r + 1, s => if inB3 (sn b n s) 97 122 then skA b n r (s + 1) else s
def skD (b : List Int32) (n : Nat) (cp : Int32) : Nat → Nat → Int32 → Nat × Int32
  | 0, s, v => (s, v)
  | r + 1, s, v => if inB3 (sn b n s) 48 57 then skD b n cp r (s + 1) (if ((10 * v + sn b n s) - 48) < cp then ((10 * v + sn b n s) - 48) else cp) else (s, v)
def nxA (b : List Int32) (n : Nat) (cp : Int32) (s : Nat) (v : Int32) : PK := if sn b n s = -1 then (s, s, 0, v) else if inB3 (sn b n s) 97 122 then (skA b n (n - s) s, s, 1, v) else if inB3 (sn b n s) 48 57 then ((skD b n cp (n - s) s 0).1, s, 2, (skD b n cp (n - s) s 0).2) else (s + 1, s, if sn b n s = 59 ∨ sn b n s = 40 ∨ sn b n s = 41 then 3 else 4, v)
def nxt (b : List Int32) (n : Nat) (cp : Int32) (p : PK) : PK := nxA b n cp (skW b n (n - p.1) p.1) p.2.2.2
theorem skW_le (b : List Int32) (n : Nat) : ∀ r s, r + s = n → s ≤ skW b n r s ∧ skW b n r s ≤ n := by
  intro r
  induction r with
  | zero => intro s h; exact ⟨Nat.le_refl _, by show s ≤ n; omega⟩
  | succ r ih =>
    intro s h
    have := ih (s + 1) (by omega)
    unfold skW
    split
    · omega
    · split
      · omega
      · omega
theorem skA_le (b : List Int32) (n : Nat) : ∀ r s, r + s = n → s ≤ skA b n r s ∧ skA b n r s ≤ n := by
  intro r
  induction r with
  | zero => intro s h; exact ⟨Nat.le_refl _, by show s ≤ n; omega⟩
  | succ r ih =>
    intro s h
    have := ih (s + 1) (by omega)
    unfold skA
    split <;> omega
theorem skD_le (b : List Int32) (n : Nat) (cp : Int32) : ∀ r s v, r + s = n → s ≤ (skD b n cp r s v).1 ∧ (skD b n cp r s v).1 ≤ n := by
  intro r
  induction r with
  | zero => intro s v h; exact ⟨Nat.le_refl _, by show s ≤ n; omega⟩
  | succ r ih =>
    intro s v h
    have := ih (s + 1) (if ((10 * v + sn b n s) - 48) < cp then ((10 * v + sn b n s) - 48) else cp) (by omega)
    unfold skD
    split
    · omega
    · exact ⟨Nat.le_refl _, by show s ≤ n; omega⟩
theorem sn_lt {b : List Int32} {n k : Nat} (h : ¬ sn b n k = -1) : k < n := by
  unfold sn at h
  split at h
  · assumption
  · exact absurd rfl h
theorem nxt_ok {b : List Int32} {n : Nat} {cp : Int32} {p : PK} (h : p.1 ≤ n) : PKo n (nxt b n cp p) ∧ p.1 ≤ (nxt b n cp p).2.1 ∧ (¬ (nxt b n cp p).2.2.1 = 0 → p.1 < n) := by
  have hw := skW_le b n (n - p.1) p.1 (by omega)
  have ha := skA_le b n (n - skW b n (n - p.1) p.1) (skW b n (n - p.1) p.1) (by omega)
  have hd := skD_le b n cp (n - skW b n (n - p.1) p.1) (skW b n (n - p.1) p.1) 0 (by omega)
  unfold PKo nxt nxA
  split
  · exact ⟨⟨Nat.le_refl _, hw.2⟩, hw.1, fun hn => absurd rfl hn⟩
  · rename_i hne
    have := sn_lt hne
    split
    · exact ⟨⟨ha.1, ha.2⟩, hw.1, fun _ => by omega⟩
    · split
      · exact ⟨⟨hd.1, hd.2⟩, hw.1, fun _ => by omega⟩
      · exact ⟨⟨Nat.le_succ _, this⟩, hw.1, fun _ => by omega⟩
/-- the twin's reader stands at p -/
def tP (S : TS) (p : PK) : TS := setF (setF (setF (setF S 12 (i32 p.1)) 13 (i32 p.2.1)) 14 p.2.2.1) 15 p.2.2.2
theorem tP_r {S : TS} {p : PK} {k : Nat} (h2 : k ≠ 12) (h3 : k ≠ 13) (h4 : k ≠ 14) (h5 : k ≠ 15) : (tP S p).1 k = S.1 k := by
  unfold tP; rw [setF_n h5, setF_n h4, setF_n h3, setF_n h2]
theorem tP_12 {S : TS} {p : PK} : (tP S p).1 12 = i32 p.1 := by unfold tP; rw [setF_n (by decide), setF_n (by decide), setF_n (by decide), setF_1]
theorem tP_13 {S : TS} {p : PK} : (tP S p).1 13 = i32 p.2.1 := by unfold tP; rw [setF_n (by decide), setF_n (by decide), setF_1]
theorem tP_14 {S : TS} {p : PK} : (tP S p).1 14 = p.2.2.1 := by unfold tP; rw [setF_n (by decide), setF_1]
theorem tP_15 {S : TS} {p : PK} : (tP S p).1 15 = p.2.2.2 := by unfold tP; rw [setF_1]
theorem tP_2 {S : TS} {p : PK} : (tP S p).2 = S.2 := rfl
theorem TS_ext {S S' : TS} (h1 : ∀ k, S.1 k = S'.1 k) (h2 : S.2 = S'.2) : S = S' := Prod.ext (funext h1) h2
theorem setF_at {S : TS} {k j : Nat} {x : Int32} : (setF S k x).1 j = if j = k then x else S.1 j := rfl
theorem tP_at {S : TS} {p : PK} {j : Nat} : (tP S p).1 j = if j = 15 then p.2.2.2 else if j = 14 then p.2.2.1 else if j = 13 then i32 p.2.1 else if j = 12 then i32 p.1 else S.1 j := rfl
theorem tP_s12 {S : TS} {p : PK} {x : Nat} : setF (tP S p) 12 (i32 x) = tP S (x, p.2) := TS_ext (fun j => by rw [setF_at, tP_at, tP_at]; by_cases e : j = 12 <;> simp [e]) rfl
theorem tP_s13 {S : TS} {p : PK} {x : Nat} : setF (tP S p) 13 (i32 x) = tP S (p.1, x, p.2.2) := TS_ext (fun j => by rw [setF_at, tP_at, tP_at]; by_cases e : j = 13 <;> simp [e]) rfl
theorem tP_s14 {S : TS} {p : PK} {x : Int32} : setF (tP S p) 14 x = tP S (p.1, p.2.1, x, p.2.2.2) := TS_ext (fun j => by rw [setF_at, tP_at, tP_at]; by_cases e : j = 14 <;> simp [e]) rfl
theorem tP_s15 {S : TS} {p : PK} {x : Int32} : setF (tP S p) 15 x = tP S (p.1, p.2.1, p.2.2.1, x) := TS_ext (fun j => by rw [setF_at, tP_at, tP_at]; by_cases e : j = 15 <;> simp [e]) rfl
theorem tP_F {S : TS} {p : PK} {k : Nat} {x : Int32} (h2 : k ≠ 12) (h3 : k ≠ 13) (h4 : k ≠ 14) (h5 : k ≠ 15) : setF (tP S p) k x = tP (setF S k x) p := TS_ext (fun j => by rw [setF_at, tP_at, tP_at, setF_at]; by_cases e : j = k <;> simp [e, h2, h3, h4, h5]) rfl
theorem tP_R {S : TS} {p : PK} {k : Nat} {l : List Int32} : setR (tP S p) k l = tP (setR S k l) p := rfl
theorem tP_tP {S : TS} {p p' : PK} : tP (tP S p) p' = tP S p' := TS_ext (fun j => by rw [tP_at, tP_at, tP_at]; by_cases e5 : j = 15 <;> by_cases e4 : j = 14 <;> by_cases e3 : j = 13 <;> by_cases e2 : j = 12 <;> simp_all) rfl
section
variable {G : GL} {d : Nat} {h0 h : AH} {m : Nat} {A : Nat → Nat} {S : TS} {g : GS} {n : Nat} {p : PK} {Qx : Nat → AH → Prop}
theorem s_seen {k : Nat} {K : Int32 → AH → Prop} (H : TWX h0 h m A S) (hb : (S.2 9).length = 500) (hf : S.1 10 = i32 n) (hn : n ≤ 500) (hk : k ≤ 1000) (HK : K (sn (S.2 9) n k) h) : MF G d mi_M_seen 0 [.ref m, .int (i32 k)] [] h (cI K Qx) := by
  unfold sn at HK
  refine b_M_seen_0 (tw_I H (by decide) rfl ?_)
  rw [hf]
  refine ⟨fun hle => cI_mk ?_, fun hgt => ?_⟩
  · have := (i32_le (by omega) (by omega)).mp hle
    rw [if_neg (by omega)] at HK; exact HK
  · have : ¬ n ≤ k := fun e => hgt ((i32_le (by omega) (by omega)).mpr e)
    rw [if_pos (by omega)] at HK
    exact tw_g (k := 9) (n := k) H (by decide) rfl (by decide) rfl (by omega) (getD_some (by omega)) (cI_mk HK)
theorem s_goes {K : AH → Prop} (H : TWX h0 h m A (tP S p)) (hb : (S.2 9).length = 500) (hf : S.1 10 = i32 n) (hn : n ≤ 500) (hp : p.1 ≤ n) (HK : ∀ h', TWX h0 h' m A (tP S (nxt (S.2 9) n 100000 p)) → K h') : MF G (d + 1) mi_M_goes 0 [.ref m, .retAddr 0] [] h (cV K Qx) := by
  have hf' : ∀ p : PK, (tP S p).1 10 = i32 n := fun p => (tP_r (by decide) (by decide) (by decide) (by decide)).trans hf
  -- letters
  have lA : ∀ r s, r + s = n → ∀ hh v c, TWX h0 hh m A (tP S (s, v)) → (∀ h', TWX h0 h' m A (tP S (skA (S.2 9) n r s, v)) → K h') → MF G (d + 1) mi_M_goes 85 [.ref m, .int c] [] hh (cV K Qx) := by
    intro r
    induction r with
    | zero =>
      intro s hs hh v c HH HK2
      refine b_M_goes_85 (tw_I HH (by decide) rfl ?_)
      rw [tP_12]
      refine ⟨tw_K HH, s_seen HH hb (hf' _) hn (by simp only; omega) (s_in ⟨fun _ => cV_mk (HK2 hh HH), fun hne => ?_⟩)⟩
      have e9 : sn ((tP S (s, v)).2 9) n s = -1 := by unfold sn; rw [if_neg (by omega)]
      rw [e9] at hne
      exact absurd (by decide) hne
    | succ r ih =>
      intro s hs hh v c HH HK2
      refine b_M_goes_85 (tw_I HH (by decide) rfl ?_)
      rw [tP_12]
      unfold skA at HK2
      refine ⟨tw_K HH, s_seen HH hb (hf' _) hn (by simp only; omega) (s_in ⟨fun hz => cV_mk ?_, fun hne => ?_⟩)⟩
      · have e9 := b01_0 hz
        rw [if_neg (by rw [show inB3 (sn (S.2 9) n s) 97 122 = false from e9]; decide)] at HK2
        exact HK2 hh HH
      · have e9 := b01_1 hne
        rw [if_pos (show inB3 (sn (S.2 9) n s) 97 122 = true from e9)] at HK2
        refine tw_I HH (by decide) rfl (tw_F HH (by decide) rfl fun h1 H1 => ?_)
        rw [tP_12, i32_succ, tP_s12] at H1
        exact ih (s + 1) (by omega) h1 v c H1 HK2
  -- digits
  have lD : ∀ r s v, r + s = n → ∀ hh b9 t9 c, TWX h0 hh m A (tP S (s, b9, t9, v)) → (∀ h', TWX h0 h' m A (tP S ((skD (S.2 9) n 100000 r s v).1, b9, t9, (skD (S.2 9) n 100000 r s v).2)) → K h') → MF G (d + 1) mi_M_goes 137 [.ref m, .int c] [] hh (cV K Qx) := by
    intro r
    induction r with
    | zero =>
      intro s v hs hh b9 t9 c HH HK2
      refine b_M_goes_137 (tw_I HH (by decide) rfl ?_)
      rw [tP_12]
      refine ⟨tw_K HH, s_seen HH hb (hf' _) hn (by simp only; omega) (s_in ⟨fun _ => cV_mk (HK2 hh HH), fun hne => ?_⟩)⟩
      have e9 : sn ((tP S (s, b9, t9, v)).2 9) n s = -1 := by unfold sn; rw [if_neg (by omega)]
      rw [e9] at hne
      exact absurd (by decide) hne
    | succ r ih =>
      intro s v hs hh b9 t9 c HH HK2
      refine b_M_goes_137 (tw_I HH (by decide) rfl ?_)
      rw [tP_12]
      unfold skD at HK2
      refine ⟨tw_K HH, s_seen HH hb (hf' _) hn (by simp only; omega) (s_in ⟨fun hz => cV_mk ?_, fun hne => ?_⟩)⟩
      · have e9 := b01_0 hz
        rw [if_neg (by rw [show inB3 (sn (S.2 9) n s) 48 57 = false from e9]; decide)] at HK2
        exact HK2 hh HH
      · have e9 := b01_1 hne
        rw [if_pos (show inB3 (sn (S.2 9) n s) 48 57 = true from e9)] at HK2
        refine tw_I HH (by decide) rfl (tw_I HH (by decide) rfl ?_)
        rw [tP_12, tP_15]
        refine ⟨tw_K HH, s_seen HH hb (hf' _) hn (by simp only; omega) (tw_F HH (by decide) rfl fun h1 H1 => ?_)⟩
        rw [tP_s15] at H1
        refine tw_I H1 (by decide) rfl (tw_F H1 (by decide) rfl fun h2 H2 => ?_)
        rw [tP_12, i32_succ, tP_s12] at H2
        exact ih (s + 1) _ (by omega) h2 b9 t9 c H2 HK2
  -- spaces
  have lW : ∀ r s, r + s = n → ∀ hh v, TWX h0 hh m A (tP S (s, v)) → (∀ h', TWX h0 h' m A (tP S (nxA (S.2 9) n 100000 (skW (S.2 9) n r s) v.2.2)) → K h') → MF G (d + 1) mi_M_goes 0 [.ref m, .retAddr 0] [] hh (cV K Qx) := by
    have fin : ∀ s, s ≤ n → ¬ sn (S.2 9) n s = 32 → ¬ sn (S.2 9) n s = 10 → ∀ hh v, TWX h0 hh m A (tP S (s, v)) → (∀ h', TWX h0 h' m A (tP S (nxA (S.2 9) n 100000 s v.2.2)) → K h') → MF G (d + 1) mi_M_goes 0 [.ref m, .retAddr 0] [] hh (cV K Qx) := by
      intro s hs h32 h10 hh v HH HK2
      unfold nxA at HK2
      refine b_M_goes_0 (tw_I HH (by decide) rfl ?_)
      rw [tP_12]
      refine ⟨tw_K HH, s_seen HH hb (hf' _) hn (by simp only; omega) ⟨fun e => absurd e h32, fun _ => tw_I HH (by decide) rfl ?_⟩⟩
      rw [tP_12]
      refine ⟨tw_K HH, s_seen HH hb (hf' _) hn (by simp only; omega) ⟨fun _ => tw_I HH (by decide) rfl (tw_F HH (by decide) rfl fun h1 H1 => ?_), fun e => absurd e h10⟩⟩
      rw [tP_12, tP_s13] at H1
      refine tw_I H1 (by decide) rfl ?_
      rw [tP_12]
      refine ⟨tw_K H1, s_seen H1 hb (hf' _) hn (by simp only; omega) ⟨fun hne => ?_, fun he => ?_⟩⟩
      · rw [if_neg (show ¬ sn (S.2 9) n s = -1 from hne)] at HK2
        refine s_in ⟨fun hz => ?_, fun hnz => tw_F H1 (by decide) rfl fun h2 H2 => ?_⟩
        · rw [if_neg (by rw [show inB3 (sn (S.2 9) n s) 97 122 = false from b01_0 hz]; decide)] at HK2
          refine s_in ⟨fun hz => ?_, fun hnz => tw_F H1 (by decide) rfl fun h2 H2 => tw_F H2 (by decide) rfl fun h3 H3 => ?_⟩
          · rw [if_neg (by rw [show inB3 (sn (S.2 9) n s) 48 57 = false from b01_0 hz]; decide)] at HK2
            have last : ∀ t9 : Int32, t9 = (if sn (S.2 9) n s = 59 ∨ sn (S.2 9) n s = 40 ∨ sn (S.2 9) n s = 41 then 3 else 4) → pF h1 m [12] 14 (.int t9) fun h19 => gI h19 m [12] 12 fun y20 => pF h19 m [12] 12 (.int (y20 + 1)) fun h21 => cV K Qx (.inl none) h21 := by
              intro t9 et
              refine tw_F H1 (by decide) rfl fun h2 H2 => ?_
              rw [tP_s14] at H2
              refine tw_I H2 (by decide) rfl (tw_F H2 (by decide) rfl fun h3 H3 => cV_mk (HK2 h3 ?_))
              rw [tP_12, i32_succ, tP_s12, et] at H3
              exact H3
            refine ⟨fun e => last 3 (if_pos (Or.inl e)).symm, fun n1 => ⟨fun e => last 3 (if_pos (Or.inr (Or.inl e))).symm, fun n2 => ⟨fun n3 => last 4 (if_neg (fun e => e.elim n1 (fun e => e.elim n2 n3))).symm, fun e => last 3 (if_pos (Or.inr (Or.inr e))).symm⟩⟩⟩
          · rw [if_pos (show inB3 (sn (S.2 9) n s) 48 57 = true from b01_1 hnz)] at HK2
            rw [tP_s14] at H2
            rw [tP_s14, tP_s15] at H3
            exact lD (n - s) s 0 (by omega) h3 s 2 _ H3 HK2
        · rw [if_pos (show inB3 (sn (S.2 9) n s) 97 122 = true from b01_1 hnz)] at HK2
          rw [tP_s14] at H2
          exact lA (n - s) s (by omega) h2 _ _ H2 HK2
      · rw [if_pos (show sn (S.2 9) n s = -1 from he)] at HK2
        refine tw_F H1 (by decide) rfl fun h2 H2 => cV_mk (HK2 h2 ?_)
        rw [tP_s14] at H2
        exact H2
    intro r
    induction r with
    | zero =>
      intro s hs hh v HH HK2
      have e9 : sn (S.2 9) n s = -1 := by unfold sn; rw [if_neg (by omega)]
      exact fin s (by omega) (by rw [e9]; decide) (by rw [e9]; decide) hh v HH HK2
    | succ r ih =>
      intro s hs hh v HH HK2
      by_cases h32 : sn (S.2 9) n s = 32
      · unfold skW at HK2
        rw [if_pos h32] at HK2
        refine b_M_goes_0 (tw_I HH (by decide) rfl ?_)
        rw [tP_12]
        refine ⟨tw_K HH, s_seen HH hb (hf' _) hn (by simp only; omega) ⟨fun _ => tw_I HH (by decide) rfl (tw_F HH (by decide) rfl fun h1 H1 => ?_), fun hn => absurd h32 hn⟩⟩
        rw [tP_12, i32_succ, tP_s12] at H1
        exact ih (s + 1) (by omega) h1 v H1 HK2
      · by_cases h10 : sn (S.2 9) n s = 10
        · unfold skW at HK2
          rw [if_neg h32, if_pos h10] at HK2
          refine b_M_goes_0 (tw_I HH (by decide) rfl ?_)
          rw [tP_12]
          refine ⟨tw_K HH, s_seen HH hb (hf' _) hn (by simp only; omega) ⟨fun e => absurd e h32, fun _ => tw_I HH (by decide) rfl ?_⟩⟩
          rw [tP_12]
          refine ⟨tw_K HH, s_seen HH hb (hf' _) hn (by simp only; omega) ⟨fun hn => absurd h10 hn, fun _ => tw_I HH (by decide) rfl (tw_F HH (by decide) rfl fun h1 H1 => ?_)⟩⟩
          rw [tP_12, i32_succ, tP_s12] at H1
          exact ih (s + 1) (by omega) h1 v H1 HK2
        · unfold skW at HK2
          rw [if_neg h32, if_neg h10] at HK2
          exact fin s (by omega) h32 h10 hh v HH HK2
  exact lW (n - p.1) p.1 (by omega) h p.2 H HK
end
