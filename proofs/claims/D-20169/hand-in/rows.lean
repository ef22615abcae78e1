section
/-- a cell of the script: any answer will do -/
theorem cs_cell {post : Int32 → Prop} {L : Nat} {xs : Nat → Int32} {u : St0} {p : Int32} (k : Nat) (hp : p = nI k) (hk : k < 3) (hL : L ≤ 3) (H : ∀ r, post r) : wpL_cellAt post L xs u p :=
  pk_le L k (fun _ => H _) (fun z => ⟨pk_in k L z hp, H _⟩) rfl hp
/-- the class: the element at a place within -/
theorem cs_el {post : Int32 → Prop} {a : Nat → Int32} {n k : Nat} (hn : n ≤ 8) (hk : k < n) (H : post (a k)) : wpX0_elementAt post (a, n) (nI k) :=
  br_f (nI_ne0 (by omega) (by omega)) (br_t (nI_pos' (by omega)) ⟨pk_in k n hk, by rw [nI_clamp (show k < 2 ^ 31 by omega)]; exact H⟩)
/-- the twin: its loop has found the element once it is past the place -/
theorem cs_tw {post : Int32 → Prop} {a : Nat → Int32} {n k : Nat} (hn : n ≤ 8) (hk : k < n) (H : post (a k)) : wpX1_elementAt post (a, n) (nI k) :=
  pk_loop (fun f i s => wX1_elementAt_4 post (nI k) a n f s (nI i)) (fun i s => k < i → s = a k) n 0 0 (by omega) (fun z => absurd z (by omega))
    (fun f s h => pk_le n n (fun _ => by rw [h hk]; exact H) (fun z => absurd z (by omega)))
    (fun f i s hi h hw => pk_le n i (fun z => absurd z (by omega)) (fun _ => pk_eq i k
      (fun e => ⟨pk_in i n hi, nm_e (nm_r (nI_1 i) (hw _ (fun _ => by rw [nI_clamp (show i < 2 ^ 31 by omega), e])))⟩)
      (fun e => nm_r (nI_1 i) (hw s (fun z => h (by omega))))))
/-- the law's loop: whatever it stores, the two answers agree behind it -/
theorem cs_12 {post : Int32 → St0 → Prop} {mc ms : Nat} {x0 x2 : Int32} {kc ks n : Nat} (h1 : 1 ≤ n) (hn : n ≤ 8) (H : post 1 ()) : ∃ f, wL_lawOf_12 post mc ms x0 x2 kc ks n f 0 (fun _ => 0) := by
  obtain ⟨j, hj, e⟩ := pk_andE x2 (m := 7) 3 (by decide)
  have hj8 : j < 8 := hj
  have hm : j % n < n := Nat.mod_lt _ (by omega)
  have er : (x2 &&& 7) - (x2 &&& 7) / (Int32.ofNat n) * (Int32.ofNat n) = nI (j % n) := by
    rw [e]
    exact pk_rem (by omega) (by omega) (by omega)
  exact pk_loop (fun f i s => wL_lawOf_12 post mc ms x0 x2 kc ks n f (nI i) s) (fun _ _ => True) n 0 (fun _ => 0) (by omega) trivial
    (fun f s _ => pk_le n n (fun _ => ⟨nI_ne0 (by omega) (by omega), nm_r er (cs_el hn hm (cs_tw hn hm (br_t rfl H)))⟩) (fun z => absurd z (by omega)))
    (fun f i s hi _ hw => pk_le n i (fun z => absurd z (by omega)) (fun _ => ⟨pk_in i n hi, nm_e (nm_r (nI_1 i) (hw _ trivial))⟩))
/-- the law over three ints -/
theorem cs_of {post : Int32 → St0 → Prop} {u : St0} {p0 p1 p2 : Int32} (H : post 1 ()) : wpL_lawOf post 3 48 u p0 p1 p2 := by
  obtain ⟨j, hj, e⟩ := pk_andE p1 (m := 7) 3 (by decide)
  have hj8 : j < 8 := hj
  have e1 : 1 + (p1 &&& 7) = nI (1 + j) := by
    rw [e]
    exact nI_add 1 j
  have ec : (1 + (p1 &&& 7)).toNatClampNeg = 1 + j := pk_cl (1 + j) e1
  exact ⟨by rw [e1]; exact nI_pos (by omega), nm_r ec ⟨by omega, by omega, by omega, cs_12 (by omega) (by omega) H⟩⟩
theorem i_vc (xs : Nat → Int32) (L : Nat) (hL : L ≤ 3) : wpL_law (fun r => r = 1) L xs :=
  cs_cell 0 rfl (by omega) hL (fun _ => cs_cell 1 rfl (by omega) hL (fun _ => cs_cell 2 rfl (by omega) hL (fun _ => ⟨3, 48, by omega, by omega, cs_of rfl⟩)))
end
