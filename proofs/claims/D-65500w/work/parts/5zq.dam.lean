/-! S11: what a flow leaves reached -/
set_option maxRecDepth 100000
abbrev Rv (m : Nat → Int32) (f : Nat → Int) : Nat → Nat → Prop := fun p q => Rs m f q p
abbrev rv (m : Nat → Int32) (f : Nat → Int) (a p : Nat) : Prop := hf (Rv m f) a p
def bit (M p : Nat) : Prop := M / 2 ^ p % 2 = 1
def stb (M p : Nat) : Nat := if M / 2 ^ p % 2 = 1 then M else M + 2 ^ p
theorem bt_get : ∀ M, M < 256 → ∀ p, p < 8 → ((nI M >>> (nI p &&& 31)) &&& (1 : Int32)) = nI (M / 2 ^ p % 2) := by decide +kernel
theorem bt_set : ∀ M, M < 256 → ∀ p, p < 8 → (nI M ||| ((1 : Int32) <<< (nI p &&& 31))) = nI (stb M p) ∧ stb M p < 256 := by decide +kernel
theorem bt_stb : ∀ M, M < 256 → ∀ q, q < 8 → ∀ p, p < 8 → (stb M q / 2 ^ p % 2 = 1 ↔ (M / 2 ^ p % 2 = 1 ∨ p = q)) := by decide +kernel
theorem bt_1 : ∀ a, a < 8 → ((1 : Int32) <<< (nI a &&& 31)) = nI (stb 0 a) ∧ stb 0 a < 256 := by decide +kernel
theorem bit_get {M p : Nat} (hM : M < 256) (hp : p < 8) : (((nI M >>> (nI p &&& 31)) &&& (1 : Int32)) = 0 ↔ ¬ bit M p) ∧ (((nI M >>> (nI p &&& 31)) &&& (1 : Int32)) = 1 ↔ bit M p) := by
  rw [bt_get M hM p hp]
  unfold bit
  have : M / 2 ^ p % 2 = 0 ∨ M / 2 ^ p % 2 = 1 := by omega
  rcases this with e | e <;> rw [e]
  · exact ⟨⟨fun _ => by decide, fun _ => rfl⟩, ⟨fun z => absurd z (by decide), fun z => absurd z (by decide)⟩⟩
  · exact ⟨⟨fun z => absurd z (by decide), fun z => absurd rfl z⟩, ⟨fun _ => rfl, fun _ => rfl⟩⟩
theorem bit_stb {M p q : Nat} (hM : M < 256) (hp : p < 8) (hq : q < 8) : bit (stb M q) p ↔ (bit M p ∨ p = q) := bt_stb M hM q hq p hp
theorem stb_lt {M q : Nat} (h : ¬ bit M q) : M < stb M q := by
  unfold stb
  unfold bit at h
  rw [if_neg h]
  have := Nat.two_pow_pos q
  omega
/-- a set that holds a and all that is next to it -/
theorem rv_fix {m : Nat → Int32} {f : Nat → Int} {a : Nat} {S : Nat → Prop} (ha : S a) (hs : ∀ p, S p → rv m f a p) (hc : ∀ p q, S p → Rs m f p q → S q) : ∀ p, S p ↔ rv m f a p := by
  intro p
  refine ⟨hs p, ?_⟩
  rintro ⟨n, hn⟩
  have key : ∀ n p, Pn (Rv m f) a n p → S p := by
    intro n
    induction n with
    | zero => intro p h; have h : p = a := h
              rw [h]; exact ha
    | succ n ih => rintro p ⟨q, q1, q2⟩; exact hc q p (ih q q2) q1
  exact key n p hn
def MkI (m : Nat → Int32) (f : Nat → Int) (a M : Nat) : Prop := M < 256 ∧ bit M a ∧ ∀ p, p < 8 → bit M p → p < cn (m 0) ∧ rv m f a p
def clo (m : Nat → Int32) (f : Nat → Int) (M k z : Nat) : Prop := bit M z → 0 < rm m f k z → bit M (ot m k z)
theorem c_rpass {σ : St} {m : Nat → Int32} {f : Nat → Int} {a M0 : Nat} (hw : WF m) (ha : a < cn (m 0)) (hc : HC (σ 3) m) (F : FlC σ m f) (FI : FlI m f) (I0 : MkI m f a M0) : Ret (iter (fun z => B_X7_reach_18 3 z.1 z.2.1 z.2.2 σ) (nI M0, (0 : Int32), (0 : Int32))) (fun r => ∃ M, r.1 = nI M ∧ MkI m f a M ∧ ((r.2 = 0 ∧ M = M0 ∧ ∀ k, k < cn (m 1) → ∀ c, c < 2 → clo m f M k (en m k c)) ∨ (r.2 = 1 ∧ M0 < M))) := by
  have b1 := hw.2.1
  have b1' := b1.2
  have b0 := hw.1.1.2
  refine iter_cnt (f := fun z => B_X7_reach_18 3 z.1 z.2.1 z.2.2 σ) (fun k (y : Nat × Int32) => (nI y.1, y.2, nI k)) (fun k y => MkI m f a y.1 ∧ ((y.2 = 0 ∧ y.1 = M0 ∧ ∀ j, j < k → ∀ c, c < 2 → clo m f y.1 j (en m j c)) ∨ (y.2 = 1 ∧ M0 < y.1))) (cn (m 1)) ?_ ?_ (M0, (0 : Int32)) ⟨I0, Or.inl ⟨rfl, rfl, fun j hj => absurd hj (Nat.not_lt_zero j)⟩⟩
  · rintro k ⟨M, fl⟩ hk ⟨t1, t2⟩
    have t1 : MkI m f a M := t1
    have t2 : (fl = 0 ∧ M = M0 ∧ ∀ j, j < k → ∀ c, c < 2 → clo m f M j (en m j c)) ∨ (fl = 1 ∧ M0 < M) := t2
    obtain ⟨⟨pa, pb, pne⟩, ⟨pea, peb, -⟩, -⟩ := pipe hw hk
    have lt : nI k < m 1 := by rw [b1.1]; exact nI_lt hk (by omega)
    show Ret (B_X7_reach_18 3 (nI M) fl (nI k) σ) _
    unfold B_X7_reach_18
    rw [hc.1.2.1, if_pos lt]
    refine Ret.bind (Q := fun r => ∃ M', r.1 = nI M' ∧ MkI m f a M' ∧ ((r.2 = 0 ∧ M' = M0 ∧ ∀ j, j < k + 1 → ∀ c, c < 2 → clo m f M' j (en m j c)) ∨ (r.2 = 1 ∧ M0 < M'))) ?_ ?_
    · refine iter_cnt (f := fun z => B_X7_reach_30 3 (nI k) z.1 z.2.1 z.2.2 σ) (fun c (y : Nat × Int32) => (nI y.1, y.2, nI c)) (fun c y => MkI m f a y.1 ∧ ((y.2 = 0 ∧ y.1 = M0 ∧ (∀ j, j < k → ∀ c, c < 2 → clo m f y.1 j (en m j c)) ∧ ∀ c', c' < c → clo m f y.1 k (en m k c')) ∨ (y.2 = 1 ∧ M0 < y.1))) 2 ?_ ?_ (M, fl) ⟨t1, ?_⟩
      · rintro c ⟨M, fl⟩ hc2 ⟨u1, u2⟩
        have u1 : MkI m f a M := u1
        have u2 : (fl = 0 ∧ M = M0 ∧ (∀ j, j < k → ∀ c, c < 2 → clo m f M j (en m j c)) ∧ ∀ c', c' < c → clo m f M k (en m k c')) ∨ (fl = 1 ∧ M0 < M) := u2
        have hz : en m k c < cn (m 0) := by unfold en; split <;> omega
        have ho : ot m k (en m k c) < cn (m 0) := by unfold ot; split <;> omega
        obtain ⟨r1, r2⟩ := rm_nn (p := en m k c) hw FI hk
        show Ret (B_X7_reach_30 3 (nI k) (nI M) fl (nI c) σ) _
        unfold B_X7_reach_30
        have ez : (if nI c = 0 then (rdo σ 3 1 20 (nI k)).bind (fun r3003 => some r3003) else (rdo σ 3 2 20 (nI k)).bind (fun r3002 => some r3002)) = some (nI (en m k c)) := by
          obtain ⟨h1, h2, -⟩ := hc.2.1 k hk
          rw [rdo_nI (by omega) (by decide), some_b, rdo_nI (by omega) (by decide), some_b, h1, h2, pea, peb]
          unfold en
          by_cases c0 : c = 0
          · rw [if_pos (by rw [c0]; rfl), if_pos c0]
          · rw [if_neg (nI_ne0 (by omega) (by omega)), if_neg c0]
        have gz := bit_get (p := en m k c) u1.1 (by omega)
        have go := bit_get (p := ot m k (en m k c)) u1.1 (by omega)
        have stay : (clo m f M k (en m k c)) → ((fl = 0 ∧ M = M0 ∧ (∀ j, j < k → ∀ c, c < 2 → clo m f M j (en m j c)) ∧ ∀ c', c' < c + 1 → clo m f M k (en m k c')) ∨ (fl = 1 ∧ M0 < M)) := by
          intro hst
          rcases u2 with ⟨x1, x2, x3, x4⟩ | x
          · refine Or.inl ⟨x1, x2, x3, fun c' hc' => ?_⟩
            by_cases e : c' = c
            · subst e; exact hst
            · exact x4 c' (by omega)
          · exact Or.inr x
        rw [if_pos (show nI c < (2 : Int32) from nI_lt (b := 2) hc2 (by decide)), ez, some_b, c_other hw hc hk (by omega), some_b]
        by_cases q1 : bit M (en m k c)
        · rw [if_neg (fun z => gz.1.mp z q1)]
          by_cases q2 : bit M (ot m k (en m k c))
          · rw [if_pos (go.2.mpr q2), nI_1]
            exact Ret.some ⟨(M, fl), rfl, u1, stay (fun _ _ => q2)⟩
          · rw [if_neg (fun z => q2 (go.2.mp z)), c_room hw hc F hk (by omega), some_b]
            by_cases q3 : 0 < rm m f k (en m k c)
            · obtain ⟨s1, s2⟩ := bt_set M u1.1 (ot m k (en m k c)) (by omega)
              rw [if_pos ((zI_pos (by unfold zB; omega)).mpr q3), nmo_b, s1, nI_1]
              refine Ret.some ⟨(stb M (ot m k (en m k c)), (1 : Int32)), rfl, ⟨s2, (bit_stb u1.1 (by omega) (by omega)).mpr (Or.inl u1.2.1), fun p hp hb => ?_⟩, Or.inr ⟨rfl, ?_⟩⟩
              · rcases (bit_stb u1.1 hp (by omega)).mp hb with y | y
                · exact u1.2.2 p hp y
                · rw [y]
                  refine ⟨ho, ?_⟩
                  obtain ⟨n, hn⟩ := (u1.2.2 (en m k c) (by omega) q1).2
                  exact ⟨n + 1, en m k c, ⟨k, hk, q3, rfl⟩, hn⟩
              · have := stb_lt q2
                show M0 < stb M (ot m k (en m k c))
                rcases u2 with ⟨-, x2, -⟩ | ⟨-, x2⟩ <;> omega
            · rw [if_neg (fun z => q3 ((zI_pos (by unfold zB; omega)).mp z)), nI_1]
              exact Ret.some ⟨(M, fl), rfl, u1, stay (fun _ w => absurd w q3)⟩
        · rw [if_pos (gz.1.mpr q1), nI_1]
          exact Ret.some ⟨(M, fl), rfl, u1, stay (fun w => absurd w q1)⟩
      · rintro ⟨M, fl⟩ ⟨u1, u2⟩
        show Ret (B_X7_reach_30 3 (nI k) (nI M) fl (nI 2) σ) _
        unfold B_X7_reach_30
        rw [if_neg (by decide)]
        refine ⟨_, rfl, M, rfl, u1, ?_⟩
        rcases u2 with ⟨x1, x2, x3, x4⟩ | x
        · refine Or.inl ⟨x1, x2, fun j hj c hc => ?_⟩
          by_cases e : j = k
          · subst e; exact x4 c hc
          · exact x3 j (by omega) c hc
        · exact Or.inr x
      · rcases t2 with ⟨x1, x2, x3⟩ | x
        · exact Or.inl ⟨x1, x2, x3, fun c' hc' => absurd hc' (Nat.not_lt_zero c')⟩
        · exact Or.inr x
    · rintro r ⟨M', e1, e2, e3⟩
      rw [e1, nI_1]
      exact Ret.some ⟨(M', r.2), rfl, e2, e3⟩
  · rintro ⟨M, fl⟩ ⟨t1, t2⟩
    have nlt : ¬ nI (cn (m 1)) < m 1 := by
      conv => rhs; rhs; rw [b1.1]
      exact nI_nlt (Nat.le_refl _) (by omega)
    show Ret (B_X7_reach_18 3 (nI M) fl (nI (cn (m 1))) σ) _
    unfold B_X7_reach_18
    rw [hc.1.2.1, if_neg nlt]
    exact ⟨_, rfl, M, rfl, t1, t2⟩
theorem c_reach {σ : St} {m : Nat → Int32} {f : Nat → Int} {a : Nat} (hw : WF m) (ha : a < cn (m 0)) (hc : HC (σ 3) m) (F : FlC σ m f) (FI : FlI m f) : Ret (F_X7_reach 3 (nI a) σ) (fun r => ∃ M, r = nI M ∧ M < 256 ∧ ∀ p, p < cn (m 0) → (bit M p ↔ rv m f a p)) := by
  have b0 := hw.1.1.2
  obtain ⟨e1, e2⟩ := bt_1 a (by omega)
  unfold F_X7_reach
  rw [nmo_b, e1]
  refine Ret.bind (Q := fun r => ∃ M, r = nI M ∧ M < 256 ∧ ∀ p, p < cn (m 0) → (bit M p ↔ rv m f a p)) ?_ (fun r hr => Ret.some hr)
  refine iter_wf (f := fun z => B_X7_reach_7 3 z.1 z.2 σ) (fun y => ∃ M, y.1 = nI M ∧ MkI m f a M ∧ (y.2 = 1 ∨ (y.2 = 0 ∧ ∀ k, k < cn (m 1) → ∀ c, c < 2 → clo m f M k (en m k c)))) (fun y => 2 * (256 - cn y.1) + (if y.2 = 0 then 0 else 1)) _ ?_ (nI (stb 0 a), (1 : Int32)) ⟨stb 0 a, rfl, ⟨e2, (bit_stb (by decide) (by omega) (by omega)).mpr (Or.inr rfl), fun p hp hb => ?_⟩, Or.inl rfl⟩
  · rintro ⟨c, fl⟩ ⟨M, u1, u2, u3'⟩
    have u1 : c = nI M := u1
    subst u1
    have u3 : fl = 1 ∨ (fl = 0 ∧ ∀ k, k < cn (m 1) → ∀ c, c < 2 → clo m f M k (en m k c)) := u3'
    show Ret (B_X7_reach_7 3 (nI M) fl σ) _
    unfold B_X7_reach_7
    have hM := u2.1
    rcases u3 with z | ⟨z, hfx⟩
    · rw [if_neg (show ¬ fl = 0 by rw [z]; decide)]
      refine Ret.bind (c_rpass hw ha hc F FI u2) ?_
      rintro r ⟨M', r1, r2, r3⟩
      have hM' := r2.1
      refine ⟨.inl (r.1, r.2), rfl, ⟨M', r1, r2, ?_⟩, ?_⟩
      · rcases r3 with ⟨x1, x2, x3⟩ | ⟨x1, -⟩
        · exact Or.inr ⟨x1, x3⟩
        · exact Or.inl x1
      · show 2 * (256 - cn r.1) + (if r.2 = 0 then 0 else 1) < 2 * (256 - cn (nI M)) + (if fl = 0 then 0 else 1)
        rw [r1, cn_nI (by omega), cn_nI (by omega), if_neg (show ¬ fl = 0 by rw [z]; decide)]
        rcases r3 with ⟨x1, x2, x3⟩ | ⟨x1, x2⟩
        · rw [if_pos x1, x2]; omega
        · rw [if_neg (show ¬ r.2 = 0 by rw [x1]; decide)]; omega
    · rw [if_pos z]
      refine ⟨_, rfl, M, rfl, hM, fun p hp => ?_⟩
      have := rv_fix (m := m) (f := f) (a := a) (S := fun p => p < cn (m 0) ∧ bit M p) ⟨ha, u2.2.1⟩ (fun p hp => (u2.2.2 p (by omega) hp.2).2) (fun p q hp hpq => ?_) p
      · rw [← this]
        exact ⟨fun w => ⟨hp, w⟩, fun w => w.2⟩
      · refine ⟨(Rs_lt hw hpq).2, ?_⟩
        obtain ⟨k, k1, k2, k3⟩ := hpq
        rw [k3]
        rcases rm_end k2 with w | w
        · have := hfx k k1 0 (by omega)
          rw [show en m k 0 = eA m k from rfl, w] at this
          exact this hp.2 k2
        · have := hfx k k1 1 (by omega)
          rw [show en m k 1 = eB m k from rfl, w] at this
          exact this hp.2 k2
  · rcases (bit_stb (by decide) hp (by omega)).mp hb with y | y
    · exfalso
      have : ∀ p, p < 8 → ¬ (0 / 2 ^ p % 2 = 1) := by decide +kernel
      exact this p hp y
    · rw [y]; exact ⟨ha, 0, rfl⟩
/-- the model's marks -/
noncomputable def mkM (S : Nat → Prop) (p : Nat) : Int32 := @ite _ (S p) (Classical.propDecidable _) 0 (-1)
def MrM (σ τ : St) (m : Nat → Int32) (f : Nat → Int) (a : Nat) (S : Nat → Prop) : Prop := Fr σ τ 20 53 ∧ (∀ p, p < cn (m 0) → τ 20 53 p = mkM S p) ∧ S a ∧ ∀ p, S p → rv m f a p
theorem mk_neg {S : Nat → Prop} {p : Nat} : mkM S p < 0 ↔ ¬ S p := by
  unfold mkM
  by_cases s : S p
  · rw [if_pos s]; exact ⟨fun z => absurd z (by decide), fun z => absurd s z⟩
  · rw [if_neg s]; exact ⟨fun _ => s, fun _ => by decide⟩
theorem mr_half {σ τ : St} {m : Nat → Int32} {f : Nat → Int} {a k z : Nat} {S : Nat → Prop} (hw : WF m) (FI : FlI m f) (hk : k < cn (m 1)) (hz : eA m k = z ∨ eB m k = z) (L : MrM σ τ m f a S) : ∃ τ' S', MrM σ τ' m f a S' ∧ (∀ p, S p → S' p) ∧ (0 < rm m f k z → S z → S' (ot m k z)) ∧ ∀ {β : Type} (K : St → Option β), (if mkM S z < 0 then K τ else (if (0 : Int32) < zI (rm m f k z) then K (up3 τ 20 53 (ot m k z) 0) else K τ)) = K τ' := by
  obtain ⟨r1, r2⟩ := rm_nn (p := z) hw FI hk
  by_cases q1 : mkM S z < 0
  · exact ⟨τ, S, L, fun _ h => h, fun _ h => absurd h (mk_neg.mp q1), fun K => by rw [if_pos q1]⟩
  · have sz : S z := by
      by_cases s : S z
      · exact s
      · exact absurd (mk_neg.mpr s) q1
    by_cases q3 : 0 < rm m f k z
    · obtain ⟨l1, l2, l3, l4⟩ := L
      refine ⟨up3 τ 20 53 (ot m k z) 0, fun p => S p ∨ p = ot m k z, ⟨l1.up _ _, fun p hp => ?_, Or.inl l3, fun p hp => ?_⟩, fun p hp => Or.inl hp, fun _ _ => Or.inr rfl, fun K => by rw [if_neg q1, if_pos ((zI_pos (by unfold zB; omega)).mpr q3)]⟩
      · by_cases e : p = ot m k z
        · rw [e, up3_same]
          unfold mkM
          rw [if_pos (Or.inr rfl)]
        · rw [up3_i e, l2 p hp]
          unfold mkM
          by_cases s : S p
          · rw [if_pos s, if_pos (Or.inl s)]
          · rw [if_neg s, if_neg (fun x => x.elim s e)]
      · rcases hp with hp | hp
        · exact l4 p hp
        · rw [hp]
          obtain ⟨n, hn⟩ := l4 z sz
          exact ⟨n + 1, z, ⟨k, hk, q3, rfl⟩, hn⟩
    · exact ⟨τ, S, L, fun _ h => h, fun w => absurd w q3, fun K => by rw [if_neg q1, if_neg (fun w => q3 ((zI_pos (by unfold zB; omega)).mp w))]⟩
theorem m_marks {σ : St} {m : Nat → Int32} {f : Nat → Int} {a : Nat} (hw : WF m) (ha : a < cn (m 0)) (hm : σ 20 1 = m) (F : FlM σ m f) (FI : FlI m f) : Ret (Option.bind (iter (fun z => B_X12_tellDam_60 (nI a) z.1 z.2) ((0 : Int32), σ)) (fun z88 => iter (fun z => B_X12_tellDam_90 z.1 z.2) ((0 : Int32), z88))) (fun τ => Fr σ τ 20 53 ∧ ∀ p, p < cn (m 0) → τ 20 53 p = mkM (rv m f a) p) := by
  have b0 := hw.1.1.2
  have b1 := hw.2.1
  have b1' := b1.2
  have fx : ∀ υ S, MrM σ υ m f a S → υ 20 1 = m ∧ FlM υ m f := fun υ S h => ⟨by rw [h.1 20 1 (by omega)]; exact hm, F.fr (h.1 20 52 (by omega))⟩
  refine Ret.bind (Q := fun τ => MrM σ τ m f a (fun p => p = a)) ?_ ?_
  · refine iter_cnt (f := fun z => B_X12_tellDam_60 (nI a) z.1 z.2) (fun k (τ : St) => (nI k, τ)) (fun k τ => Fr σ τ 20 53 ∧ ∀ p, p < k → τ 20 53 p = mkM (fun p => p = a) p) 8 ?_ ?_ σ ⟨Fr.rf σ 20 53, fun p hp => absurd hp (Nat.not_lt_zero p)⟩
    · rintro k τ hk ⟨t1, t2⟩
      show Ret (B_X12_tellDam_60 (nI a) (nI k) τ) _
      unfold B_X12_tellDam_60
      have ev : (if nI k = nI a then some ((0 : Int32)) else some ((-1 : Int32))) = some (mkM (fun p => p = a) k) := by
        unfold mkM
        by_cases e : k = a
        · rw [if_pos (by rw [e]), if_pos e]
        · rw [if_neg (by rw [nI_eq (by omega) (by omega)]; exact e), if_neg e]
      rw [if_pos (show nI k < (8 : Int32) from nI_lt (b := 8) hk (by decide)), ev, some_b, wro_nI (by omega) (by decide), some_b, nI_1]
      refine Ret.some ⟨_, rfl, t1.up _ _, fun p hp => ?_⟩
      by_cases e : p = k
      · rw [e, up3_same]
      · rw [up3_i e]; exact t2 p (by omega)
    · rintro τ ⟨t1, t2⟩
      show Ret (B_X12_tellDam_60 (nI a) (nI 8) τ) _
      unfold B_X12_tellDam_60
      rw [if_neg (by decide)]
      exact ⟨_, rfl, t1, fun p hp => t2 p (by omega), rfl, fun p hp => by rw [hp]; exact ⟨0, rfl⟩⟩
  rintro τ L
  refine iter_cnt (f := fun z => B_X12_tellDam_90 z.1 z.2) (fun c (υ : St) => (nI c, υ)) (fun c υ => ∃ S, MrM σ υ m f a S ∧ ∀ p, rv m f a p → hd (Rv m f) a p ≤ c → S p) 8 ?_ ?_ τ ⟨_, L, fun p h1 h2 => by have := (hd_some h1).1; rw [show hd (Rv m f) a p = 0 by omega] at this; exact this⟩
  · rintro c υ hc ⟨S, h1, h2⟩
    show Ret (B_X12_tellDam_90 (nI c) υ) _
    unfold B_X12_tellDam_90
    rw [if_pos (show nI c < (8 : Int32) from nI_lt (b := 8) hc (by decide))]
    refine Ret.bind (Q := fun ρ => ∃ S', MrM σ ρ m f a S' ∧ ∀ p, rv m f a p → hd (Rv m f) a p ≤ c + 1 → S' p) ?_ (fun ρ hρ => by rw [nI_1]; exact Ret.some ⟨ρ, rfl, hρ⟩)
    refine iter_cnt (f := fun z => B_X12_tellDam_99 (nI c) z.1 z.2) (fun k (ρ : St) => (nI k, ρ)) (fun k ρ => ∃ S', MrM σ ρ m f a S' ∧ (∀ p, S p → S' p) ∧ ∀ j z, j < k → (eA m j = z ∨ eB m j = z) → 0 < rm m f j z → S z → S' (ot m j z)) (cn (m 1)) ?_ ?_ υ ⟨S, h1, fun _ h => h, fun j z hj => absurd hj (Nat.not_lt_zero j)⟩
    · rintro k ρ hk ⟨S0, g1, g2, g3⟩
      obtain ⟨mρ, Fρ⟩ := fx ρ S0 g1
      obtain ⟨⟨pa, pb, pne⟩, ⟨pea, peb, -⟩, -⟩ := pipe hw hk
      obtain ⟨oa, ob⟩ := ot_ends pne
      have lt : nI k < m 1 := by rw [b1.1]; exact nI_lt hk (by omega)
      obtain ⟨ρ1, S1, a1, a2, a3, a4⟩ := mr_half (z := eA m k) hw FI hk (Or.inl rfl) g1
      obtain ⟨ρ2, S2, c1, c2, c3, c4⟩ := mr_half (z := eB m k) hw FI hk (Or.inr rfl) a1
      obtain ⟨mρ1, Fρ1⟩ := fx ρ1 S1 a1
      rw [oa] at a3 a4
      rw [ob] at c3 c4
      show Ret (B_X12_tellDam_99 (nI c) (nI k) ρ) _
      unfold B_X12_tellDam_99
      rw [m_rd1, some_b, mρ, if_pos lt, m_street0 (by omega), some_b, mρ, pea, rdo_nI (by omega) (by decide), some_b, some_b, m_room hw mρ Fρ hk (by omega), some_b, m_street1 (by omega), some_b, mρ, peb, wro_nI (by omega) (by decide), some_b, g1.2.1 _ pa]
      have e1 := a4 (fun s => (some s : Option St))
      rw [e1, some_b, m_street1 (by omega), some_b, mρ1, peb, rdo_nI (by omega) (by decide), some_b, some_b, m_room hw mρ1 Fρ1 hk (by omega), some_b, m_street0 (by omega), some_b, mρ1, pea, wro_nI (by omega) (by decide), some_b, a1.2.1 _ pb, nI_1]
      have e2 := c4 (fun s => (some (.inl (nI (k + 1), s)) : Option ((Int32 × St) ⊕ St)))
      rw [e2]
      refine Ret.some ⟨ρ2, rfl, S2, c1, fun p hp => c2 _ (a2 _ (g2 p hp)), fun j z hj hz hr hs => ?_⟩
      by_cases e : j = k
      · subst e
        rcases hz with y | y
        · rw [← y] at hr hs ⊢
          rw [oa]
          exact c2 _ (a3 hr (g2 _ hs))
        · rw [← y] at hr hs ⊢
          rw [ob]
          exact c3 hr (a2 _ (g2 _ hs))
      · exact c2 _ (a2 _ (g3 j z (by omega) hz hr hs))
    · rintro ρ ⟨S0, g1, g2, g3⟩
      obtain ⟨mρ, Fρ⟩ := fx ρ S0 g1
      have nlt : ¬ nI (cn (m 1)) < m 1 := by
        conv => rhs; rhs; rw [b1.1]
        exact nI_nlt (Nat.le_refl _) (by omega)
      show Ret (B_X12_tellDam_99 (nI c) (nI (cn (m 1))) ρ) _
      unfold B_X12_tellDam_99
      rw [m_rd1, some_b, mρ, if_neg nlt]
      refine ⟨_, rfl, S0, g1, fun p p1 p2 => ?_⟩
      by_cases e : hd (Rv m f) a p ≤ c
      · exact g2 _ (h2 p p1 e)
      · have hpa : p ≠ a := fun z => by rw [z, hd_b] at e; omega
        obtain ⟨q, ⟨j, j1, j2, j3⟩, q2, q3⟩ := hd_pre p1 hpa
        rw [j3]
        exact g3 j q j1 (rm_end j2) j2 (h2 q q2 (by omega))
  · rintro υ ⟨S, h1, h2⟩
    show Ret (B_X12_tellDam_90 (nI 8) υ) _
    unfold B_X12_tellDam_90
    rw [if_neg (by decide)]
    refine ⟨_, rfl, h1.1, fun p hp => ?_⟩
    rw [h1.2.1 p hp]
    unfold mkM
    by_cases s : S p
    · rw [if_pos s, if_pos (h1.2.2.2 p s)]
    · rw [if_neg s, if_neg]
      intro z
      have := hd_7 (E := Rv m f) (b := a) (P := cn (m 0)) (fun p q hpq => ⟨(Rs_lt hw hpq).2, (Rs_lt hw hpq).1⟩) ha hp z
      exact s (h2 p z (by omega))
