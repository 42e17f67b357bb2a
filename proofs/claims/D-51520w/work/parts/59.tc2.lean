/-! the twin's reader: starts, load -/
set_option maxRecDepth 100000
def PK0 : PK := (0, 0, 0, 0)
/-- where a reader stands first -/
def pk1 (b : List Int32) (n : Nat) (cp v : Int32) : PK := nxt b n cp (0, 0, 0, v)
section
variable {G : GL} {d : Nat} {h0 h : AH} {m : Nat} {A : Nat → Nat} {S : TS} {g : GS} {n : Nat} {p : PK} {Qx : Nat → AH → Prop}
/-- the reader's state at its start -/
def st0 (S : TS) : TS := setF (setF S 16 0) 11 (-1)
theorem st0_tP {S : TS} : setF (setF (setF S 12 0) 16 0) 11 (-1) = setF (st0 S) 12 0 := TS_ext (fun j => by
  unfold st0
  rw [setF_at, setF_at, setF_at, setF_at, setF_at, setF_at]
  by_cases e1 : j = 12
  · subst e1; simp
  · simp [e1]) rfl
theorem s_starts {K : AH → Prop} (H : TWX h0 h m A S) (hL : TL S) (hf : S.1 10 = i32 n) (hn : n ≤ 500) (HK : ∀ h' x y z, TWX h0 h' m A (tP (st0 S) (nxt (S.2 9) n 100000 (0, x, y, z))) → K h') (hbg : ∃ k, S.1 13 = i32 k) : MF G (d + 2) mi_M_starts 0 [.ref m] [] h (cV K Qx) := by
  obtain ⟨k, hk⟩ := hbg
  refine b_M_starts_0 (tw_F H (by decide) rfl fun h1 H1 => tw_F H1 (by decide) rfl fun h2 H2 => tw_F H2 (by decide) rfl fun h3 H3 => ?_)
  have e : setF (setF (setF S 12 0) 16 0) 11 (-1) = tP (st0 S) (0, k, S.1 14, S.1 15) := TS_ext (fun j => by
    unfold st0
    rw [tP_at, setF_at, setF_at, setF_at, setF_at, setF_at]
    by_cases e1 : j = 12
    · subst e1; simp; rfl
    · by_cases e2 : j = 13
      · subst e2; simp [hk]
      · by_cases e3 : j = 14
        · subst e3; simp
        · by_cases e4 : j = 15
          · subst e4; simp
          · simp [e1, e2, e3, e4]) rfl
  rw [e] at H3
  have hf' : (st0 S).1 10 = i32 n := by unfold st0; rw [setF_n (by decide), setF_n (by decide)]; exact hf
  exact ⟨tw_K H3, s_goes (S := st0 S) (n := n) H3 (hL 9 rfl) hf' hn (Nat.zero_le _) fun h4 H4 => cV_mk (HK h4 _ _ _ H4)⟩
end
/-- an empty row stands for the empty game -/
def g00 : GS := (fun _ => 0, [], [], [])
theorem TRZ_0 : TRZ (List.replicate 457 0) g00 := by
  refine ⟨⟨by simp, by decide, by decide, by decide, fun j hj => ?_, fun k x hk => ?_, fun k x hk => ?_, fun k x hk => ?_⟩, fun k hk hk5 => ?_⟩
  · rw [List.getElem?_replicate, if_pos (by omega)]
    unfold rowN
    by_cases e2 : j = 2
    · rw [if_pos e2]; rfl
    · by_cases e3 : j = 3
      · rw [if_neg e2, if_pos e3]; rfl
      · by_cases e10 : j = 10
        · rw [if_neg e2, if_neg e3, if_pos e10]; rfl
        · rw [if_neg e2, if_neg e3, if_neg e10]; rfl
  · cases hk
  · cases hk
  · cases hk
  · rw [List.getElem?_replicate, if_pos (by omega)]
