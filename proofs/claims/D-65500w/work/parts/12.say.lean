/-! S1: words that are said -/
set_option maxRecDepth 100000
def asc (l : List Int32) : Prop := ∀ c ∈ l, ∃ n, n < 128 ∧ c = nI n
theorem asc_app {a b : List Int32} (ha : asc a) (hb : asc b) : asc (a ++ b) := by
  intro c hc
  rcases List.mem_append.mp hc with h | h
  · exact ha c h
  · exact hb c h
theorem asc_cons {c : Int32} {l : List Int32} (hc : ∃ n, n < 128 ∧ c = nI n) (hl : asc l) : asc (c :: l) := by
  intro x hx
  rcases List.mem_cons.mp hx with h | h
  · rw [h]; exact hc
  · exact hl x h
theorem asc_nil : asc [] := fun _ h => absurd h List.not_mem_nil
theorem asc_dg (n : Nat) : ∀ i, asc (dgN n i) := by
  intro i
  induction i with
  | zero => exact asc_cons ⟨48 + n % 10, by omega, rfl⟩ asc_nil
  | succ i ih => exact asc_cons ⟨48 + n / 10 ^ (i + 1) % 10, by omega, rfl⟩ ih
theorem asc_numL (v : Int32) : asc (numL v) := by
  unfold numL
  by_cases h : v < 0
  · rw [if_pos h]; exact asc_cons ⟨45, by decide, rfl⟩ (asc_dg _ _)
  · rw [if_neg h]; exact asc_dg _ _
theorem asc_toldL (v : Int32) : asc (toldL v) := by
  unfold toldL
  by_cases h : v < 0
  · rw [if_pos h]; exact asc_cons ⟨45, by decide, rfl⟩ asc_nil
  · rw [if_neg h]; exact asc_numL v
theorem b8_asc {n : Nat} (h : n < 128) : b8 (nI n) = nI n ∧ nI n &&& 255 = nI n := by
  have key : ∀ n, n < 128 → b8 (nI n) = nI n ∧ nI n &&& 255 = nI n := by decide +kernel
  exact key n h
theorem appC_take {σ : St} {l : List Int32} {k : Nat} (h : k < l.length) : appC σ (l.take (k + 1)) = addC (appC σ (l.take k)) (l.getD k 0) := by
  have e : l.take (k + 1) = l.take k ++ [l.getD k 0] := by
    rw [getD_lt h, List.take_succ_eq_append_getElem h]
  rw [e, ← appC_app]
  rfl
theorem appM_take {σ : St} {l : List Int32} {k : Nat} (h : k < l.length) : appM σ (l.take (k + 1)) = addM (appM σ (l.take k)) (l.getD k 0) := by
  have e : l.take (k + 1) = l.take k ++ [l.getD k 0] := by
    rw [getD_lt h, List.take_succ_eq_append_getElem h]
  rw [e, ← appM_app]
  rfl
/-- a text of the component's constants -/
def sTx (i : Nat) : List Int32 := strB.getD i []
theorem sok_nI {i : Nat} (h : i < 54) : sok (nI i) = some i := by
  unfold sok
  rw [nI_clamp (by omega), if_pos (show i < strL.length from h)]
theorem strChr_nI {i k : Nat} (hi : i < 54) (hk : k < slen i) : strChr i (nI k) = some ((sTx i).getD k 0) := by
  have := slen_small i hi
  unfold strChr
  rw [if_pos (inb_nI hk (by omega)), nI_clamp (by omega)]
  rfl
theorem f_sayC {σ : St} {n i : Nat} (hi : i < 54) (hs : szC σ n) (hn : n + (sTx i).length ≤ 4000) : F_X1_say (nI i) σ = some (appC σ (sTx i)) := by
  have hl : slen i = (sTx i).length := rfl
  have hsm := slen_small i hi
  unfold F_X1_say
  have key := iter_row (f := fun z => B_X1_say_2 (nI i) z.1 z.2) (fun k => (nI k, appC σ ((sTx i).take k))) (slen i) (appC σ (sTx i)) ?_ ?_ 0 (Nat.zero_le _)
  · rw [show ((0 : Int32), σ) = (nI 0, appC σ ((sTx i).take 0)) from rfl, key, some_b]
  · intro k hk
    have hz : szC (appC σ ((sTx i).take k)) (n + k) := by
      have := appC_sz (l := (sTx i).take k) hs
      rw [List.length_take, Nat.min_eq_left (by omega)] at this
      exact this
    show B_X1_say_2 (nI i) (nI k) (appC σ ((sTx i).take k)) = _
    unfold B_X1_say_2
    have hlt : nI k < Int32.ofNat (slen i) := nI_lt (a := k) (b := slen i) hk (by omega)
    rw [sok_nI hi, some_b, some_b, strChr_nI hi hk]
    unfold strLen
    rw [some_b, if_pos hlt, some_b, f_add hz (by omega), some_b, appC_take (by omega)]
    rw [i32_lit, nI_add]
  · show B_X1_say_2 (nI i) (nI (slen i)) _ = _
    unfold B_X1_say_2
    have hnl : ¬ nI (slen i) < Int32.ofNat (slen i) := nI_nlt (a := slen i) (b := slen i) (Nat.le_refl _) (by omega)
    rw [sok_nI hi, some_b]
    unfold strLen
    rw [some_b, if_neg hnl, hl, List.take_length]
/-- the model's constant arrays -/
def ansL : List Int32 := [111, 107, 0, 98, 97, 100, 32, 0, 115, 104, 117, 116, 0, 110, 111, 32, 115, 105, 122, 101, 0, 110, 111, 32, 112, 108, 97, 99, 101, 0, 110, 111, 32, 116, 105, 109, 101, 0, 110, 111, 32, 114, 111, 111, 109, 0, 110, 111, 32, 115, 116, 114, 101, 101, 116, 0, 115, 97, 109, 101, 0, 110, 111, 32, 115, 107, 105, 108, 108, 0, 110, 111, 32, 117, 110, 105, 116, 0, 110, 111, 116, 32, 104, 111, 109, 101, 0, 111, 102, 102, 0, 110, 111, 32, 114, 97, 110, 107, 0, 110, 111, 32, 99, 97, 108, 108, 0, 110, 111, 116, 32, 102, 114, 101, 101, 0, 110, 111, 116, 32, 119, 97, 105, 116, 105, 110, 103, 0, 110, 111, 32, 119, 97, 121, 0, 110, 111, 32, 115, 116, 101, 112, 0, 111, 110, 0, 110, 111, 32, 100, 114, 105, 108, 108, 0, 110, 111, 110, 101, 0, 110, 111, 32, 99, 117, 116, 0, 108, 105, 110, 101, 32, 0, 111, 112, 101, 110, 0, 115, 117, 109, 32, 0, 106, 111, 105, 110, 101, 100, 32, 0, 99, 97, 108, 108, 32, 0, 116, 111, 111, 32, 100, 101, 101, 112, 0, 107, 105, 110, 100, 32, 0, 110, 111, 32, 107, 105, 110, 100, 0, 97, 115, 107, 32, 0, 116, 111, 111, 32, 109, 97, 110, 121, 0, 110, 111, 32, 110, 97, 109, 101, 0, 116, 97, 107, 101, 110, 0, 110, 111, 32, 104, 111, 117, 114, 0, 110, 111, 32, 110, 97, 109, 101, 115, 0, 98, 97, 100, 32, 102, 0, 98, 97, 100, 32, 115, 116, 114, 101, 101, 116, 32, 0, 98, 97, 100, 32, 112, 108, 97, 99, 101, 32, 0, 98, 97, 100, 32, 99, 0, 98, 97, 100, 32, 118, 97, 108, 117, 101, 0, 102, 108, 111, 119, 32, 0, 115, 111, 117, 110, 100, 0, 98, 114, 111, 107, 101, 110, 0]
def reqL : List Int32 := [116, 111, 119, 110, 0, 115, 116, 114, 101, 101, 116, 0, 108, 97, 110, 101, 0, 99, 108, 111, 115, 101, 0, 111, 112, 101, 110, 0, 117, 110, 105, 116, 0, 111, 102, 102, 0, 111, 110, 0, 112, 111, 115, 116, 0, 99, 97, 108, 108, 0, 115, 101, 110, 100, 0, 103, 111, 0, 101, 110, 100, 0, 107, 105, 110, 100, 0, 114, 101, 112, 111, 114, 116, 0, 110, 97, 109, 101, 0, 104, 111, 117, 114, 115, 0, 97, 119, 97, 121, 0, 115, 104, 105, 102, 116, 0, 116, 105, 99, 107, 0, 117, 110, 100, 111, 0, 100, 114, 105, 108, 108, 0, 100, 111, 110, 101, 0, 119, 97, 121, 115, 0, 112, 108, 97, 110, 0, 112, 114, 111, 118, 101, 0, 99, 104, 101, 99, 107, 0, 99, 111, 118, 101, 114, 0, 109, 111, 118, 101, 0, 117, 110, 105, 116, 115, 0, 99, 97, 108, 108, 115, 0, 98, 105, 108, 108, 0, 119, 104, 101, 114, 101, 0, 112, 97, 116, 104, 0, 114, 97, 100, 105, 111, 0, 102, 108, 111, 119, 0, 100, 97, 109, 0, 106, 117, 100, 103, 101, 0, 99, 111, 117, 110, 116, 115, 0, 97, 104, 101, 97, 100, 0, 115, 104, 105, 102, 116, 115, 0, 97, 117, 100, 105, 116, 0, 98, 111, 111, 107, 115, 0, 99, 117, 116, 0, 109, 101, 110, 100, 0]
def numA : List Int32 := [1, 3, 3, 1, 1, 2, 1, 1, 2, 3, 0, 2, 1, 0, 2, 1, 3, 1, 0, 1, 0, 0, 0, 1, 0, 0, 0, 0, 0, 0, 0, 1, 0, 2, 1, 2, 2, 2, 0, 1, 0, 0, 0, 1, 0]
/-- the answers' words, and where they begin -/
def ansW : List (List Int32) := [[111, 107],
  [98, 97, 100, 32],
  [115, 104, 117, 116],
  [110, 111, 32, 115, 105, 122, 101],
  [110, 111, 32, 112, 108, 97, 99, 101],
  [110, 111, 32, 116, 105, 109, 101],
  [110, 111, 32, 114, 111, 111, 109],
  [110, 111, 32, 115, 116, 114, 101, 101, 116],
  [115, 97, 109, 101],
  [110, 111, 32, 115, 107, 105, 108, 108],
  [110, 111, 32, 117, 110, 105, 116],
  [110, 111, 116, 32, 104, 111, 109, 101],
  [111, 102, 102],
  [110, 111, 32, 114, 97, 110, 107],
  [110, 111, 32, 99, 97, 108, 108],
  [110, 111, 116, 32, 102, 114, 101, 101],
  [110, 111, 116, 32, 119, 97, 105, 116, 105, 110, 103],
  [110, 111, 32, 119, 97, 121],
  [110, 111, 32, 115, 116, 101, 112],
  [111, 110],
  [110, 111, 32, 100, 114, 105, 108, 108],
  [110, 111, 110, 101],
  [110, 111, 32, 99, 117, 116],
  [108, 105, 110, 101, 32],
  [111, 112, 101, 110],
  [115, 117, 109, 32],
  [106, 111, 105, 110, 101, 100, 32],
  [99, 97, 108, 108, 32],
  [116, 111, 111, 32, 100, 101, 101, 112],
  [107, 105, 110, 100, 32],
  [110, 111, 32, 107, 105, 110, 100],
  [97, 115, 107, 32],
  [116, 111, 111, 32, 109, 97, 110, 121],
  [110, 111, 32, 110, 97, 109, 101],
  [116, 97, 107, 101, 110],
  [110, 111, 32, 104, 111, 117, 114],
  [110, 111, 32, 110, 97, 109, 101, 115],
  [98, 97, 100, 32, 102],
  [98, 97, 100, 32, 115, 116, 114, 101, 101, 116, 32],
  [98, 97, 100, 32, 112, 108, 97, 99, 101, 32],
  [98, 97, 100, 32, 99],
  [98, 97, 100, 32, 118, 97, 108, 117, 101],
  [102, 108, 111, 119, 32],
  [115, 111, 117, 110, 100],
  [98, 114, 111, 107, 101, 110]]
def ansP : List Nat := [0, 3, 8, 13, 21, 30, 38, 46, 56, 61, 70, 78, 87, 91, 99, 107, 116, 128, 135, 143, 146, 155, 160, 167, 173, 178, 183, 191, 197, 206, 212, 220, 225, 234, 242, 248, 256, 265, 271, 283, 294, 300, 310, 316, 322]
def aTx (w : Nat) : List Int32 := ansW.getD w []
def StatM (σ : St) : Prop := (∀ i, i < 329 → σ 20 19 i = ansL.getD i 0) ∧ (∀ i, i < 240 → σ 20 17 i = reqL.getD i 0) ∧ ∀ i, i < 45 → σ 20 18 i = numA.getD i 0
/-- how many words end before a place -/
def zcN : Nat → Nat
  | 0 => 0
  | k + 1 => zcN k + if ansL.getD k 0 = 0 then 1 else 0
def zcL : Nat → Nat → List Int32 → List Nat
  | _, _, [] => []
  | k, z, c :: l => z :: zcL (k + 1) (z + if c = 0 then 1 else 0) l
theorem say_tab : ∀ w, w < 45 → (ansP.getD w 0 + (aTx w).length < 329 ∧ zcN (ansP.getD w 0) = w ∧ (∀ k, k < ansP.getD w 0 → zcN k < w) ∧ (∀ i, i < (aTx w).length → (ansL.getD (ansP.getD w 0 + i) 0 = (aTx w).getD i 0 ∧ ¬ (aTx w).getD i 0 = 0)) ∧ ansL.getD (ansP.getD w 0 + (aTx w).length) 0 = 0) := by decide +kernel
theorem zcN_le (k : Nat) : zcN k ≤ k := by
  induction k with
  | zero => exact Nat.le_refl 0
  | succ k ih =>
    unfold zcN
    by_cases h : ansL.getD k 0 = 0
    · rw [if_pos h]; omega
    · rw [if_neg h]; omega
theorem f_sayM {σ : St} {n w : Nat} (hw : w < 45) (hS : StatM σ) (hs : szM σ n) (hn : n + (aTx w).length ≤ 3200) : F_X12_say (nI w) σ = some (appM σ (aTx w)) := by
  obtain ⟨h1, h2, h3, h4, h5⟩ := say_tab w hw
  unfold F_X12_say
  have k1 : iter (fun z => B_X12_say_4 (nI w) z.1 z.2 σ) (nI 0, nI (zcN 0)) = some (nI (ansP.getD w 0)) := by
    refine iter_row (f := fun z => B_X12_say_4 (nI w) z.1 z.2 σ) (fun k => (nI k, nI (zcN k))) (ansP.getD w 0) _ ?_ ?_ 0 (Nat.zero_le _)
    · intro k hk
      have hz := zcN_le k
      have hlt := h3 k hk
      show B_X12_say_4 (nI w) (nI k) (nI (zcN k)) σ = _
      unfold B_X12_say_4
      rw [if_pos (nI_lt hlt (by omega)), rdo_nI (by omega) (by decide), some_b, ite_bind, nmo_b, hS.1 k (by omega), show (1 : Int32) = nI 1 from rfl, nI_add, zcN]
      by_cases h0 : ansL.getD k 0 = 0
      · rw [if_pos h0, if_pos h0, nI_add]
      · rw [if_neg h0, if_neg h0, i32_lit, nI_add]
    · show B_X12_say_4 (nI w) (nI (ansP.getD w 0)) (nI (zcN (ansP.getD w 0))) σ = _
      unfold B_X12_say_4
      rw [h2, if_neg (nI_nlt (Nat.le_refl _) (by omega))]
  have k2 : iter (fun z => B_X12_say_32 z.1 z.2) (nI (ansP.getD w 0), σ) = some (appM σ (aTx w)) := by
    have key := iter_row (f := fun z => B_X12_say_32 z.1 z.2) (fun k => (nI (ansP.getD w 0 + k), appM σ ((aTx w).take k))) (aTx w).length (appM σ (aTx w)) ?_ ?_ 0 (Nat.zero_le _)
    · exact key
    · intro k hk
      have hz : szM (appM σ ((aTx w).take k)) (n + k) := by
        have := appM_sz (l := (aTx w).take k) hs
        rw [List.length_take, Nat.min_eq_left (by omega)] at this
        exact this
      obtain ⟨h6, h7⟩ := h4 k hk
      show B_X12_say_32 (nI (ansP.getD w 0 + k)) (appM σ ((aTx w).take k)) = _
      unfold B_X12_say_32
      have hr : rdo (appM σ ((aTx w).take k)) 20 19 329 (nI (ansP.getD w 0 + k)) = some ((aTx w).getD k 0) := by
        rw [rdo_nI (by omega) (by decide), appM_j (by decide) (by decide), hS.1 _ (by omega), h6]
      rw [hr, some_b, if_neg h7, some_b, f_put hz (by omega), some_b, i32_lit, nI_add, appM_take hk, Nat.add_assoc]
    · show B_X12_say_32 (nI (ansP.getD w 0 + (aTx w).length)) (appM σ ((aTx w).take (aTx w).length)) = _
      unfold B_X12_say_32
      rw [rdo_nI (by omega) (by decide), appM_j (by decide) (by decide), hS.1 _ (by omega), h5, some_b, if_pos rfl, List.take_length]
  rw [show ((0 : Int32), (0 : Int32)) = (nI 0, nI (zcN 0)) from rfl, k1, some_b, k2, some_b]
