section
/-- the picture: the cell i of mix's array -/
def os_v (a b : Int32) (i : Nat) : Int32 := if (nI i &&& 1) = 0 then a >>> ((4 * nI i) &&& 31) else b <<< ((3 * nI i) &&& 31)
/-- the sum of the first n cells -/
def os_s (f : Nat → Int32) : Nat → Int32
  | 0 => 0
  | n + 1 => os_s f n + f n
theorem os_sc {f g : Nat → Int32} : ∀ k : Nat, (∀ j, j < k → f j = g j) → os_s f k = os_s g k := by
  intro k
  induction k with
  | zero => exact fun _ => rfl
  | succ k ih =>
    intro h
    show os_s f k + f k = os_s g k + g k
    rw [ih (fun j hj => h j (by omega)), h k (by omega)]
theorem os_fill {f s : Nat → Int32} {i k : Nat} {x : Int32} (hk : k = i) (h : ∀ j, j < i → s j = f j) (hx : x = f i) : ∀ j, j < i + 1 → upd s k x j = f j := by
  intro j hj
  rw [hk]
  by_cases e : j = i
  · rw [e, pk_us, hx]
  · rw [pk_un e]
    exact h j (by omega)
theorem os_sw (s x t : Int32) : (s + x) + t = s + (t + x) := by
  rw [Int32.add_assoc, Int32.add_comm x t]
theorem os_m1 (i : Nat) : nI i + (-1) = nI i - 1 := by
  rw [Int32.sub_eq_add_neg]
end
section
theorem os_m10 {post : St1 → Prop} {mc ms kc ks : Nat} {a b : Int32} {k : Nat} {am : Nat → Int32} (hk : k < 8)
    (H : ∀ s : Nat → Int32, (∀ j, j < k → s j = os_v a b j) → post (s, k)) :
    ∃ n, wL_mix_10 post mc ms a b kc ks k n 0 am :=
  pk_loop (fun n i s => wL_mix_10 post mc ms a b kc ks k n (nI i) s) (fun i s => ∀ j, j < i → s j = os_v a b j) k 0 am (by omega) (fun j hj => absurd hj (by omega))
    (fun n s h => pk_le k k (fun _ => H s h) (fun z => absurd z (by omega)))
    (fun n i s hi h hw => pk_le k i (fun z => absurd z (by omega)) (fun _ => br_c
      (fun c => ⟨pk_in i k hi, nm_e (nm_r (nI_1 i) (hw _ (os_fill (nI_clamp (by omega)) h (by unfold os_v; rw [if_pos c]))))⟩)
      (fun c => ⟨pk_in i k hi, nm_e (nm_r (nI_1 i) (hw _ (os_fill (nI_clamp (by omega)) h (by unfold os_v; rw [if_neg c]))))⟩)))
theorem os_mix {post : St1 → Prop} {mc ms : Nat} {a b p : Int32} {k : Nat} (hk : k < 8) (e : p &&& 7 = nI k) (h1 : 1 ≤ mc) (h2 : 7 ≤ ms)
    (H : ∀ s : Nat → Int32, (∀ j, j < k → s j = os_v a b j) → post (s, k)) :
    wpL_mix post mc ms () a b p := by
  unfold wpL_mix
  rw [e]
  refine ⟨nI_pos (by omega), nm_r (nI_clamp (by omega)) ⟨by omega, h1, by omega, ?_⟩⟩
  exact os_m10 hk H
theorem os_x1 {post : Int32 → Prop} {f : Nat → Int32} {k : Nat} (hk : k < 8) (H : post (os_s f k)) : wpX1_sumOf post (f, k) :=
  nm_e (pk_loop (fun n i s => wX1_sumOf_10 post (nI k) f k n s (nI i)) (fun i s => s = os_s f i) k 0 0 (by omega) rfl
    (fun n s h => pk_le k k (fun _ => by rw [h]; exact H) (fun z => absurd z (by omega)))
    (fun n i s hi h hw => pk_le k i (fun z => absurd z (by omega)) (fun _ => ⟨pk_in i k hi, nm_r (by rw [nI_clamp (by omega)]) (nm_r (nI_1 i) (hw _ (by rw [h]; rfl)))⟩)))
theorem os_x2 {post : Int32 → Prop} {f : Nat → Int32} {k : Nat} (hk : k < 8) (H : post (os_s f k)) : wpX2_sumOf post (f, k) :=
  nm_e ⟨k + 1, pk_loopD (fun n i s => wX2_sumOf_7 post f k n s (nI i - 1)) (fun i s => i ≤ k ∧ s + os_s f i = os_s f k)
    (fun n s h => br_t (by decide) (by
      have e : s + 0 = os_s f k := h.2
      rw [Int32.add_zero] at e
      rw [e]; exact H))
    (fun n i s h hw => by
      obtain ⟨hi, hs⟩ := h
      show wX2_sumOf_7 post f k (n + 1) s (nI (i + 1) - 1)
      rw [nI_pred]
      refine br_f (nI_pos (by omega)) ⟨pk_in i k (by omega), nm_r (by rw [nI_clamp (by omega)]) (nm_r (os_m1 i) (hw _ ⟨by omega, ?_⟩))⟩
      rw [os_sw]
      exact hs)
    k 0 ⟨by omega, Int32.zero_add _⟩⟩
end
section
theorem os_lawOf {post : Int32 → St0 → Prop} {a b p : Int32} (H : post 1 ()) : wpL_lawOf post 6 96 () a b p := by
  obtain ⟨k, hk, e⟩ := pk_andE p (m := 7) 3 (by decide)
  refine ⟨1, 7, by omega, by omega, os_mix hk e (by omega) (by omega) (fun s hs => ?_)⟩
  refine os_x1 hk ⟨1, 7, by omega, by omega, os_mix hk e (by omega) (by omega) (fun t ht => ?_)⟩
  refine os_x2 hk (br_t ?_ H)
  rw [os_sc k hs, os_sc k ht]
theorem os_cell {post : Int32 → Prop} {L : Nat} {xs : Nat → Int32} (hL : L ≤ 3) (c : Nat) (hc : c < 3) (H : ∀ r, post r) : wpL_cellAt post L xs () (nI c) :=
  pk_le L c (fun _ => H _) (fun z => ⟨pk_in c L z, H _⟩)
theorem i_vc (xs : Nat → Int32) (L : Nat) (hL : L ≤ 3) : wpL_law (fun r => r = 1) L xs :=
  os_cell hL 0 (by omega) (fun _ => os_cell hL 1 (by omega) (fun _ => os_cell hL 2 (by omega) (fun _ => ⟨6, 96, by omega, by omega, os_lawOf rfl⟩)))
end
