section
/-- the plain picture: the sum of k places of a from place f on -/
def oc_S (a : Nat → Int32) (f : Nat) : Nat → Int32
  | 0 => 0
  | k + 1 => oc_S a f k + a (f + k)
/-- one place more -/
theorem oc_step {a : Nat → Int32} {f i : Nat} {s : Int32} (hf : f ≤ i) (hi : i < 2 ^ 31) (hs : s = oc_S a f (i - f)) : s + a (nI i).toNatClampNeg = oc_S a f (i + 1 - f) := by
  obtain ⟨k, rfl⟩ : ∃ k, i = f + k := ⟨i - f, by omega⟩
  rw [nI_clamp hi, hs, show f + k - f = k by omega, show f + k + 1 - f = k + 1 by omega]
  rfl
/-- three small naturals: no sign bit in their or -/
theorem oc_or : ∀ n, n < 8 → ∀ f, f < 8 → ∀ c, c < 8 → ¬ ((nI n ||| nI f) ||| nI c) < 0 := by decide +kernel
/-- the law's array: some n ints -/
theorem oc_mix {post : St1 → Prop} {mc ms : Nat} {x0 x1 : Int32} {kc ks n : Nat} (a : Nat → Int32) (hn : n ≤ 7) (H : ∀ a', post (a', n)) : ∃ fu, wL_mix_10 post mc ms x0 x1 kc ks n fu 0 a :=
  pk_loop (fun m i s => wL_mix_10 post mc ms x0 x1 kc ks n m (nI i) s) (fun _ _ => True) n 0 a (by omega) trivial
    (fun m s _ => pk_le n n (fun _ => H s) (fun z => absurd z (by omega)))
    (fun m i s hi _ hw => pk_le n i (fun z => absurd z (by omega)) (fun _ => br_c
      (fun _ => ⟨pk_in i n hi, nm_e (nm_r (nI_1 i) (hw _ trivial))⟩)
      (fun _ => ⟨pk_in i n hi, nm_e (nm_r (nI_1 i) (hw _ trivial))⟩)))
/-- the class: the check passes, the loop sums the range -/
theorem oc_x0 {post : Int32 → Prop} {a : Nat → Int32} {n f c : Nat} (hn : n ≤ 7) (h : f + c ≤ n) (H : post (oc_S a f c)) : wpX0_sumRange post (a, n) (nI f) (nI c) := by
  have hk : ¬ ((Int32.ofNat n ||| nI f) ||| nI c) < 0 := oc_or n (by omega) f (by omega) c (by omega)
  have hr : nI c ≤ Int32.ofNat n - nI f := by
    have e : Int32.ofNat n - nI f = nI (n - f) := pk_sub (by omega)
    rw [e]
    exact nI_le (by omega) (by omega)
  unfold wpX0_sumRange wpJ15_checkFromIndexSize_cabcc_3f900 wpJ3_checkFromIndexSize_8c36e_ba4a7
  refine br_f hk (br_t hr ?_)
  refine pk_loop (fun m i s => wX0_sumRange_13 post (nI f) (nI c) a n m s (nI i)) (fun i s => f ≤ i ∧ s = oc_S a f (i - f)) (f + c) f 0 (by omega) ⟨Nat.le_refl f, by rw [Nat.sub_self]; rfl⟩ ?_ ?_
  · intro m s hs
    refine pk_le (f + c) (f + c) (fun _ => ?_) (fun z => absurd z (by omega)) (nI_add f c)
    rw [hs.2, show f + c - f = c by omega]
    exact H
  · intro m i s hi hs hw
    exact pk_le (f + c) i (fun z => absurd z (by omega)) (fun _ => ⟨pk_in i n (by omega), nm_e (nm_r (nI_1 i) (hw _ ⟨by omega, oc_step hs.1 (by omega) hs.2⟩))⟩) (nI_add f c)
/-- the twin: it walks the whole array and takes the range's places -/
theorem oc_x1 {post : Int32 → Prop} {a : Nat → Int32} {n f c : Nat} (hn : n ≤ 7) (h : f + c ≤ n) (H : post (oc_S a f c)) : wpX1_sumRange post (a, n) (nI f) (nI c) := by
  unfold wpX1_sumRange
  refine pk_loop (fun m i s => wX1_sumRange_5 post (nI f) (nI c) a n m s (nI i)) (fun i s => s = oc_S a f (min i (f + c) - f)) n 0 0 (by omega) (by rw [show min 0 (f + c) - f = 0 by omega]; rfl) ?_ ?_
  · intro m s hs
    refine pk_le n n (fun _ => ?_) (fun z => absurd z (by omega))
    rw [hs, show min n (f + c) - f = c by omega]
    exact H
  · intro m i s hi hs hw
    refine pk_le n i (fun z => absurd z (by omega)) (fun _ => pk_lt i f (fun z => nm_r (nI_1 i) (hw _ ?_)) (fun z => pk_le (f + c) i (fun y => nm_r (nI_1 i) (hw _ ?_)) (fun y => ⟨pk_in i n hi, nm_e (nm_r (nI_1 i) (hw _ ?_))⟩) (nI_add f c)))
    · rw [hs, show min (i + 1) (f + c) - f = min i (f + c) - f by omega]
    · rw [hs, show min (i + 1) (f + c) - f = min i (f + c) - f by omega]
    · rw [show min (i + 1) (f + c) - f = i + 1 - f by omega]
      rw [show min i (f + c) - f = i - f by omega] at hs
      exact oc_step z (by omega) hs
end
section
/-- class and twin over one range: the same sum -/
theorem oc_57 {post : Int32 → St0 → Prop} {mc ms kc ks : Nat} {a : Nat → Int32} {n f c : Nat} (hn : n ≤ 7) (h : f + c ≤ n) (H : post 1 ()) : wL_lawOf_57 post mc ms (nI f) (nI c) kc ks a n := by
  unfold wL_lawOf_57
  exact oc_x0 hn h (oc_x1 hn h (br_t rfl H))
/-- the count, cut to what is left behind f -/
theorem oc_28 {post : Int32 → St0 → Prop} {mc ms kc ks : Nat} {x3 : Int32} {a : Nat → Int32} {n f : Nat} (hn : n ≤ 7) (hf : f ≤ n) (H : post 1 ()) : wL_lawOf_28 post mc ms x3 (nI f) kc ks a n := by
  unfold wL_lawOf_28
  intro x6 e6
  obtain ⟨t, ht, et⟩ := pk_andE ((x3.toUInt32 >>> ((3 : Int32).toUInt32 &&& Int32.toUInt32 31)).toInt32) (m := 7) 3 (by decide)
  rw [et] at e6
  subst e6
  have e : Int32.ofNat n - nI f = nI (n - f) := pk_sub hf
  exact pk_le t (n - f) (fun z => oc_57 hn (by omega) H) (fun z => nm_r e (oc_57 hn (by omega) H)) rfl e (by omega) (by omega)
/-- the law over four ints -/
theorem oc_lawOf {post : Int32 → St0 → Prop} {x y z w : Int32} (H : post 1 ()) : wpL_lawOf post 1 7 () x y z w := by
  obtain ⟨n, hn, en⟩ := pk_andE z (m := 7) 3 (by decide)
  obtain ⟨g, hg, eg⟩ := pk_andE w (m := 7) 3 (by decide)
  unfold wpL_lawOf
  refine ⟨1, 7, by decide, by decide, ?_⟩
  unfold wpL_mix
  rw [en]
  refine ⟨nI_pos (by omega), nm_r (nI_clamp (by omega)) ⟨by omega, by omega, by omega, oc_mix _ (by omega) (fun a => ?_)⟩⟩
  dsimp only
  rw [eg]
  exact pk_le g n (fun z => oc_28 (by omega) z H) (fun _ => oc_28 (f := n) (by omega) (Nat.le_refl n) H)
/-- a cell of the script, or 0 -/
theorem oc_cell {post : Int32 → Prop} {L : Nat} {xs : Nat → Int32} (i : Nat) (hL : L ≤ 4) (hi : i < 4) (H : ∀ r, post r) : wpL_cellAt post L xs () (nI i) := by
  unfold wpL_cellAt
  exact pk_le L i (fun _ => H _) (fun z => ⟨pk_in i L z, H _⟩)
theorem i_vc (xs : Nat → Int32) (L : Nat) (hL : L ≤ 4) : wpL_law (fun r => r = 1) L xs := by
  unfold wpL_law
  exact oc_cell 0 hL (by decide) (fun _ => oc_cell 1 hL (by decide) (fun _ => oc_cell 2 hL (by decide) (fun _ => oc_cell 3 hL (by decide) (fun _ => ⟨1, 7, by decide, by decide, oc_lawOf rfl⟩))))
end
