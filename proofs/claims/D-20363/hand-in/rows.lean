section
/-- the least of f i, .., f (i + c - 1), begun at the greatest int -/
def as_mn (f : Nat → Int32) (i : Nat) : Nat → Int32
  | 0 => 2147483647
  | c + 1 => if f (i + c) < as_mn f i c then f (i + c) else as_mn f i c
theorem as_max (v : Int32) : v ≤ 2147483647 := by
  rw [Int32.le_iff_toInt_le]
  have h := Int32.toInt_lt v
  have e : (2147483647 : Int32).toInt = 2147483647 := by decide
  rw [e]
  omega
/-- it lies below every element of the window -/
theorem as_low {f : Nat → Int32} {i : Nat} : ∀ {c d : Nat}, d < c → as_mn f i c ≤ f (i + d)
  | 0, _, h => absurd h (by omega)
  | c + 1, d, h => by
    show (if f (i + c) < as_mn f i c then f (i + c) else as_mn f i c) ≤ f (i + d)
    by_cases e : d = c
    · subst e
      by_cases g : f (i + d) < as_mn f i d
      · rw [if_pos g]
        exact Int32.le_refl _
      · rw [if_neg g]
        exact Int32.not_lt.mp g
    · have ih := as_low (f := f) (i := i) (c := c) (d := d) (by omega)
      by_cases g : f (i + c) < as_mn f i c
      · rw [if_pos g]
        exact Int32.le_trans (Int32.le_of_lt g) ih
      · rw [if_neg g]
        exact ih
/-- it is the greatest int, or an element of the window -/
theorem as_att (f : Nat → Int32) (i : Nat) : ∀ c : Nat, as_mn f i c = 2147483647 ∨ ∃ d, d < c ∧ f (i + d) = as_mn f i c
  | 0 => Or.inl rfl
  | c + 1 => by
    show (if f (i + c) < as_mn f i c then f (i + c) else as_mn f i c) = 2147483647 ∨ ∃ d, d < c + 1 ∧ f (i + d) = (if f (i + c) < as_mn f i c then f (i + c) else as_mn f i c)
    by_cases g : f (i + c) < as_mn f i c
    · rw [if_pos g]
      exact Or.inr ⟨c, by omega, rfl⟩
    · rw [if_neg g]
      rcases as_att f i c with h | ⟨d, hd, h⟩
      · exact Or.inl h
      · exact Or.inr ⟨d, by omega, h⟩
/-- an element that no element of the window is below is the least -/
theorem as_is {f : Nat → Int32} {i k c : Nat} (hc : c < k) (h : ∀ d, d < k → f (i + c) ≤ f (i + d)) : f (i + c) = as_mn f i k := by
  refine Int32.le_antisymm ?_ (as_low hc)
  rcases as_att f i k with e | ⟨d, hd, e⟩
  · rw [e]
    exact as_max _
  · rw [← e]
    exact h d hd
/-- an element with one below it is not the least -/
theorem as_not {f : Nat → Int32} {i k c d : Nat} (hd : d < k) (h : ¬ f (i + c) ≤ f (i + d)) : ¬ f (i + c) = as_mn f i k :=
  fun e => h (by rw [e]; exact as_low hd)
theorem as_st {f t : Nat → Int32} {i c : Nat} (hi : i < 2 ^ 31) (hc : i + c < 2 ^ 31) (h : t i = as_mn f i c) :
    upd t (nI i).toNatClampNeg (if f (nI (i + c)).toNatClampNeg < t (nI i).toNatClampNeg then f (nI (i + c)).toNatClampNeg else t (nI i).toNatClampNeg) = upd t i (as_mn f i (c + 1)) := by
  rw [nI_clamp hi, nI_clamp hc, h]
  rfl
/-- the number of windows, as the code reckons it -/
theorem as_len {n k : Nat} (h : k ≤ n + 1) : Int32.ofNat n - nI k + 1 = nI (n + 1 - k) := by
  rw [← pk_sub h, ← nI_1]
  show nI n - nI k + 1 = nI n + 1 - nI k
  grind
end
section
theorem as_fill {post : StJe8682 → Prop} {a : Nat → Int32} {n : Nat} {v : Int32} (hn : n ≤ 65536) (H : ∀ s, (∀ j, j < n → s j = v) → post (s, n)) : wpJ7_fill_53178_8bd53 post (a, n) v := by
  unfold wpJ7_fill_53178_8bd53
  dsimp only
  refine nm_e ?_
  refine pk_loop (fun m i s => wJ7_fill_53178_8bd53_5 post v (Int32.ofNat n) n m (nI i) s) (fun i s => ∀ j, j < i → s j = v) n 0 a (by omega) (fun j hj => absurd hj (by omega)) ?_ ?_
  · exact fun m s h => pk_le n n (fun _ => H s h) (fun z => absurd z (by omega))
  · refine fun m i s hi h hw => pk_le n i (fun z => absurd z (by omega)) (fun _ => ⟨pk_in i n hi, nm_r (e' := upd s i v) (by rw [nI_clamp (by omega)]) (nm_r (nI_1 i) (hw _ ?_))⟩)
    intro j hj
    by_cases e : j = i
    · rw [e, pk_us]
    · rw [pk_un e]
      exact h j (by omega)
theorem as_cpy {post : StJdf173 → Prop} {mc ms : Nat} {a : Nat → Int32} {n m : Nat} (hn : n ≤ 65536) (hm : m ≤ 65536) (hc : 1 ≤ mc) (hs : m ≤ ms) (H : ∀ s, post (a, n, s, m)) : wpJ7_copyOf_59c91_8bd53 post mc ms (a, n) (nI m) := by
  have e : (if nI m < Int32.ofNat n then nI m else Int32.ofNat n) = nI (min m n) := by
    show (if nI m < nI n then nI m else nI n) = nI (min m n)
    by_cases g : m < n
    · rw [if_pos (nI_lt g (by omega)), show min m n = m by omega]
    · rw [if_neg (nI_nlt (a := m) (b := n) (by omega) (by omega)), show min m n = n by omega]
  unfold wpJ7_copyOf_59c91_8bd53
  dsimp only
  rw [e]
  refine pk_eq m n (fun z => ?_) (fun z => ⟨nI_pos (by omega), nm_r (nI_clamp (by omega)) ⟨hm, hc, by omega, by decide, by decide, nI_pos (by omega), ?_, ?_, nm_e (H _)⟩⟩)
  · subst z
    exact ⟨hc, by omega, H a⟩
  · rw [nI_clamp (by omega), sb_cl0]
    omega
  · rw [nI_clamp (by omega), sb_cl0]
    omega
/-! the class -/
theorem as_x28 {post : St2 → Prop} {mc ms : Nat} {J : Int32 → (Nat → Int32) → (Nat → Int32) → Prop} {kc ks : Nat} {f s : Nat → Int32} {n0 m i k : Nat} (hn : n0 ≤ 65536) (hm : m ≤ 65537) (hi : i < m) (hk : i + k ≤ n0) (h0 : s i = 2147483647)
    (H : ∀ t, t i = as_mn f i k → (∀ j, j ≠ i → t j = s j) → J (nI (i + 1)) f t) : ∃ n, wX0_windowMinima_28 post mc ms J (nI k) (nI i) kc ks n0 m n (nI i) f s :=
  pk_loop (fun n c t => wX0_windowMinima_28 post mc ms J (nI k) (nI i) kc ks n0 m n (nI (i + c)) f t) (fun c t => t i = as_mn f i c ∧ ∀ j, j ≠ i → t j = s j) k 0 s (by omega) ⟨h0, fun _ _ => rfl⟩
    (fun n t h => pk_le (i + k) (i + k) (fun _ => nm_r (nI_1 i) (H t h.1 h.2)) (fun z => absurd z (by omega)) (hx := nI_add i k))
    (fun n c t hc h hw => pk_le (i + k) (i + c) (fun z => absurd z (by omega)) (fun _ => ⟨pk_in i m hi, pk_in (i + c) n0 (by omega), pk_in i m hi, nm_r (as_st (by omega) (by omega) h.1) (nm_r (nI_1 (i + c)) (hw _ ⟨pk_us, fun j hj => (pk_un hj).trans (h.2 j hj)⟩))⟩) (hx := nI_add i k))
theorem as_x19 {post : St2 → Prop} {mc ms kc ks : Nat} {f s : Nat → Int32} {n0 m k : Nat} (hn : n0 ≤ 65536) (hm : m + k ≤ n0 + 1) (hs : ∀ j, j < m → s j = 2147483647)
    (H : ∀ t, (∀ j, j < m → t j = as_mn f j k) → post (f, n0, t, m)) : ∃ n, wX0_windowMinima_19 post mc ms (nI k) kc ks n0 m n 0 f s := by
  refine pk_loop (fun n i t => wX0_windowMinima_19 post mc ms (nI k) kc ks n0 m n (nI i) f t) (fun i t => (∀ j, j < i → t j = as_mn f j k) ∧ ∀ j, i ≤ j → j < m → t j = 2147483647) m 0 s (by omega) ⟨fun j hj => absurd hj (by omega), fun j _ => hs j⟩ ?_ ?_
  · exact fun n t h => pk_le m m (fun _ => H t h.1) (fun z => absurd z (by omega))
  · refine fun n i t hi h hw => pk_le m i (fun z => absurd z (by omega)) (fun _ => as_x28 hn (by omega) hi (by omega) (h.2 i (Nat.le_refl i) hi) (fun t' e1 e2 => hw t' ⟨fun j hj => ?_, fun j h1 h2 => (e2 j (by omega)).trans (h.2 j (by omega) h2)⟩))
    by_cases e : j = i
    · rw [e, e1]
    · rw [e2 j e]
      exact h.1 j (by omega)
theorem as_x0 {post : St2 → Prop} {mc ms : Nat} {f : Nat → Int32} {n0 k : Nat} (hn : n0 ≤ 65535) (hk : k ≤ n0 + 1) (hc : 1 ≤ mc) (hs : n0 + 1 - k ≤ ms)
    (H : ∀ t, (∀ j, j < n0 + 1 - k → t j = as_mn f j k) → post (f, n0, t, n0 + 1 - k)) : wpX0_windowMinima post mc ms (f, n0) (nI k) := by
  unfold wpX0_windowMinima
  dsimp only
  refine ⟨mc, ms, by omega, by omega, ?_⟩
  rw [as_len hk]
  refine as_cpy (by omega) (by omega) hc hs (fun a => ?_)
  dsimp only
  refine as_fill (by omega) (fun s h => ?_)
  dsimp only
  exact as_x19 (by omega) (by omega) h H
end
section
/-! what the law holds the class against -/
theorem as_nb {post : Int32 → Prop} {f : Nat → Int32} {n0 i k : Nat} {v : Int32} (hn : n0 ≤ 65536) (hk : i + k ≤ n0) (H1 : (∀ d, d < k → v ≤ f (i + d)) → post 1) (H0 : ∀ d, d < k → ¬ v ≤ f (i + d) → post 0) : wpX1_noneBelow post (f, n0) (nI i) (nI k) v := by
  unfold wpX1_noneBelow
  dsimp only
  refine pk_loop (σ := Unit) (fun n c _ => wX1_noneBelow_3 post (nI i) (nI k) v f n0 n (nI (i + c))) (fun c _ => ∀ d, d < c → v ≤ f (i + d)) k 0 () (by omega) (fun d hd => absurd hd (by omega)) ?_ ?_
  · exact fun n _ h => pk_le (i + k) (i + k) (fun _ => H1 h) (fun z => absurd z (by omega)) (hx := nI_add i k)
  · intro n c _ hc h hw
    have e : (nI (i + c)).toNatClampNeg = i + c := nI_clamp (by omega)
    refine pk_le (i + k) (i + c) (fun z => absurd z (by omega)) (fun _ => ⟨pk_in (i + c) n0 (by omega), br_c (fun g => nm_r (nI_1 (i + c)) (hw () ?_)) (fun g => H0 c hc ?_)⟩) (hx := nI_add i k)
    · rw [e] at g
      exact lt_s h g
    · rw [e] at g
      exact g
theorem as_x25 {post : St2 → Prop} {mc ms : Nat} {J : Int32 → (Nat → Int32) → (Nat → Int32) → Prop} {kc ks : Nat} {f s : Nat → Int32} {n0 m i k : Nat} (hn : n0 ≤ 65536) (hm : m ≤ 65537) (hi : i < m) (hk : i + k ≤ n0) (h0 : s i = 2147483647)
    (H : ∀ t, t i = as_mn f i k → (∀ j, j ≠ i → t j = s j) → J (nI (i + 1)) f t) : ∃ n, wX1_windowMinima_25 post mc ms J (nI k) (nI i) kc ks n0 m n (nI i) f s := by
  refine pk_loop (fun n c t => wX1_windowMinima_25 post mc ms J (nI k) (nI i) kc ks n0 m n (nI (i + c)) f t) (fun c t => ((as_mn f i k = 2147483647 ∨ ∃ d, d < c ∧ f (i + d) = as_mn f i k) → t i = as_mn f i k) ∧ ∀ j, j ≠ i → t j = s j) k 0 s (by omega) ⟨?_, fun _ _ => rfl⟩ ?_ ?_
  · rintro (h | ⟨d, hd, _⟩)
    · rw [h, h0]
    · exact absurd hd (by omega)
  · exact fun n t h => pk_le (i + k) (i + k) (fun _ => nm_r (nI_1 i) (H t (h.1 (as_att f i k)) h.2)) (fun z => absurd z (by omega)) (hx := nI_add i k)
  · intro n c t hc h hw
    have e : (nI (i + c)).toNatClampNeg = i + c := nI_clamp (by omega)
    have e2 : (nI i).toNatClampNeg = i := nI_clamp (by omega)
    refine pk_le (i + k) (i + c) (fun z => absurd z (by omega)) (fun _ => ⟨pk_in (i + c) n0 (by omega), as_nb hn hk (fun g => br_f (by decide) ⟨pk_in (i + c) n0 (by omega), pk_in i m hi, nm_r (e' := upd t i (f (i + c))) (by rw [e, e2]) (nm_r (nI_1 (i + c)) (hw _ ⟨fun _ => ?_, fun j hj => (pk_un hj).trans (h.2 j hj)⟩))⟩) (fun d hd g => br_t rfl (nm_r (nI_1 (i + c)) (hw t ⟨fun q => h.1 ?_, h.2⟩)))⟩) (hx := nI_add i k)
    · rw [e] at g
      rw [pk_us]
      exact as_is hc g
    · rw [e] at g
      rcases q with q | ⟨d', hd', q⟩
      · exact Or.inl q
      · by_cases z : d' = c
        · rw [z] at q
          exact absurd q (as_not hd g)
        · exact Or.inr ⟨d', by omega, q⟩
theorem as_x11 {post : St2 → Prop} {mc ms kc ks : Nat} {f s : Nat → Int32} {n0 m k : Nat} (hn : n0 ≤ 65536) (hm : m + k ≤ n0 + 1)
    (H : ∀ t, (∀ j, j < m → t j = as_mn f j k) → post (f, n0, t, m)) : ∃ n, wX1_windowMinima_11 post mc ms (nI k) kc ks n0 m n 0 f s := by
  refine pk_loop (fun n i t => wX1_windowMinima_11 post mc ms (nI k) kc ks n0 m n (nI i) f t) (fun i t => ∀ j, j < i → t j = as_mn f j k) m 0 s (by omega) (fun j hj => absurd hj (by omega)) ?_ ?_
  · exact fun n t h => pk_le m m (fun _ => H t h) (fun z => absurd z (by omega))
  · refine fun n i t hi h hw => pk_le m i (fun z => absurd z (by omega)) (fun _ => ⟨pk_in i m hi, nm_r (e' := upd t i 2147483647) (by rw [nI_clamp (by omega)]) (as_x25 hn (by omega) hi (by omega) pk_us (fun t' e1 e2 => hw t' (fun j hj => ?_)))⟩)
    by_cases e : j = i
    · rw [e, e1]
    · rw [e2 j e, pk_un e]
      exact h j (by omega)
theorem as_x1 {post : St2 → Prop} {mc ms : Nat} {f : Nat → Int32} {n0 k : Nat} (hn : n0 ≤ 65535) (hk : k ≤ n0 + 1) (hc : 1 ≤ mc) (hs : n0 + 1 - k ≤ ms)
    (H : ∀ t, (∀ j, j < n0 + 1 - k → t j = as_mn f j k) → post (f, n0, t, n0 + 1 - k)) : wpX1_windowMinima post mc ms (f, n0) (nI k) := by
  unfold wpX1_windowMinima
  dsimp only
  rw [as_len hk]
  exact ⟨nI_pos (by omega), nm_r (nI_clamp (by omega)) ⟨by omega, hc, by omega, as_x11 (by omega) (by omega) H⟩⟩
end
section
theorem as_142 {post : Int32 → St0 → Prop} {mc ms kc ks : Nat} {f : Nat → Int32} {l : Nat} (hl : l ≤ 8) (H : post 1 ()) : ∃ n, wL_lawOf_142 post mc ms (nI l) kc ks f l f l n 0 :=
  pk_loop (σ := Unit) (fun n i _ => wL_lawOf_142 post mc ms (nI l) kc ks f l f l n (nI i)) (fun _ _ => True) l 0 () (by omega) trivial
    (fun n _ _ => pk_le l l (fun _ => H) (fun z => absurd z (by omega)))
    (fun n i _ hi _ hw => pk_le l i (fun z => absurd z (by omega)) (fun _ => ⟨pk_in i l hi, pk_in i l hi, br_t rfl (nm_r (nI_1 i) (hw () trivial))⟩))
theorem as_110 {post : Int32 → St0 → Prop} {mc ms kc ks : Nat} {f p q : Nat → Int32} {l m : Nat} (hl : l ≤ 8) (hm : m ≤ 9) (h : ∀ j, j < m → p j = q j) (H : post 1 ()) : ∃ n, wL_lawOf_110 post mc ms (nI l) kc ks f l f l p m q m n 0 :=
  pk_loop (σ := Unit) (fun n i _ => wL_lawOf_110 post mc ms (nI l) kc ks f l f l p m q m n (nI i)) (fun _ _ => True) m 0 () (by omega) trivial
    (fun n _ _ => pk_le m m (fun _ => as_142 hl H) (fun z => absurd z (by omega)))
    (fun n i _ hi _ hw => pk_le m i (fun z => absurd z (by omega)) (fun _ => ⟨pk_in i m hi, pk_in i m hi, br_t (by rw [nI_clamp (by omega)]; exact h i hi) (nm_r (nI_1 i) (hw () trivial))⟩))
/-- the two arrays are filled alike -/
theorem as_27 {post : Int32 → St0 → Prop} {mc ms : Nat} {x0 x1 x3 : Int32} {kc ks l : Nat} {s : Nat → Int32} (hl : l ≤ 8) (hc : kc + 2 ≤ mc) (hs : ks + 18 ≤ ms) (H : post 1 ()) : ∃ n, wL_lawOf_27 post mc ms x0 x1 x3 (nI l) kc ks l l n 0 s s := by
  refine pk_loop (fun n i t => wL_lawOf_27 post mc ms x0 x1 x3 (nI l) kc ks l l n (nI i) t t) (fun _ _ => True) l 0 s (by omega) trivial ?_ ?_
  · intro n t _
    obtain ⟨j, hj, ej⟩ := pk_andE x3 (m := 15) 4 rfl
    have hj' : j < 16 := hj
    have hk : j % (l + 2) < l + 2 := Nat.mod_lt _ (by omega)
    have e2 : nI l + 2 = nI (l + 2) := nI_add l 2
    have er : (x3 &&& 15) - (x3 &&& 15) / (nI l + 2) * (nI l + 2) = nI (j % (l + 2)) := by
      rw [ej, e2]
      exact pk_rem (by omega) (by omega) (by omega)
    refine pk_le l l (fun _ => ⟨by rw [e2]; exact nI_ne0 (by omega) (by omega), nm_r er ⟨1, 9, by omega, by omega, ?_⟩⟩) (fun z => absurd z (by omega))
    refine as_x0 (by omega) (by omega) (by omega) (by omega) (fun p hp => ?_)
    refine ⟨1, 9, by omega, by omega, ?_⟩
    refine as_x1 (by omega) (by omega) (by omega) (by omega) (fun q hq => ?_)
    exact br_t rfl (as_110 hl (by omega) (fun i hi => (hp i hi).trans (hq i hi).symm) H)
  · exact fun n i t hi _ hw => pk_le l i (fun z => absurd z (by omega)) (fun _ => nm_e ⟨pk_in i l hi, nm_e ⟨pk_in i l hi, nm_e (nm_r (nI_1 i) (hw _ trivial))⟩⟩)
theorem as_law {post : Int32 → St0 → Prop} {a c n k : Int32} (H : post 1 ()) : wpL_lawOf post 13 208 () a c n k := by
  obtain ⟨x, hx, ex⟩ := pk_andE n (m := 7) 3 rfl
  obtain ⟨y, hy, ey⟩ := pk_andE ((n.toUInt32 >>> ((3 : Int32).toUInt32 &&& Int32.toUInt32 31)).toInt32) (m := 1) 1 rfl
  have hx' : x < 8 := hx
  have hy' : y < 2 := hy
  have e : (n &&& 7) + (((n.toUInt32 >>> ((3 : Int32).toUInt32 &&& Int32.toUInt32 31)).toInt32) &&& 1) = nI (x + y) := by
    rw [ex, ey, nI_add]
  unfold wpL_lawOf
  refine nm_r e ⟨nI_pos (by omega), nm_r (nI_clamp (by omega)) ⟨by omega, by omega, by omega, nI_pos (by omega), nm_r (nI_clamp (by omega)) ⟨by omega, by omega, by omega, ?_⟩⟩⟩
  exact as_27 (by omega) (by omega) (by omega) H
theorem as_cell {post : Int32 → Prop} {L : Nat} {xs : Nat → Int32} {x : Int32} (i : Nat) (hL : L ≤ 4) (hi : i < 4) (hx : x = nI i) (H : ∀ r, post r) : wpL_cellAt post L xs () x := by
  subst hx
  exact pk_le L i (fun _ => H _) (fun z => ⟨pk_in i L z, H _⟩)
end
section
theorem i_vc (xs : Nat → Int32) (L : Nat) (hL : L ≤ 4) : wpL_law (fun r => r = 1) L xs := by
  unfold wpL_law
  refine as_cell 0 hL (by omega) rfl (fun a => ?_)
  refine as_cell 1 hL (by omega) rfl (fun c => ?_)
  refine as_cell 2 hL (by omega) rfl (fun n => ?_)
  refine as_cell 3 hL (by omega) rfl (fun k => ?_)
  exact ⟨13, 208, by omega, by omega, as_law rfl⟩
end
