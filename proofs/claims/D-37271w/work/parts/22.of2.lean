/-! Contracts out of conditions; printed by gen_vc.py. -/
set_option maxRecDepth 100000
set_option maxHeartbeats 4000000 in
theorem of_plus {g : mG} {S : mS} {a1 a2 : Int} {Qp : Option mV → mS → Prop} (I37 : Nat → Int → Int → Int → Int → Int → mS → Prop)
    (hE : mI S → (-2147483648 ≤ a1 ∧ a1 ≤ 2147483647) → (-2147483648 ≤ a2 ∧ a2 ≤ 2147483647) → (0 ≤ a1) ∧ (a1 < 16) ∧ (0 ≤ a2) ∧ (a2 < 16) ∧ (((S 2 a1) ≤ (S 2 a2)) → (∃ n1, I37 n1 a1 a2 0 (S 2 a2) 0 S)) ∧ (¬ ((S 2 a1) ≤ (S 2 a2)) → (∃ n1, I37 n1 a1 a2 0 (S 2 a1) 0 S)))
    (h37 : ∀ (n : Nat) (l1 l2 l3 l4 l5 : Int) (T : mS), mI T → (-2147483648 ≤ l1 ∧ l1 ≤ 2147483647) → (-2147483648 ≤ l2 ∧ l2 ≤ 2147483647) → (-2147483648 ≤ l3 ∧ l3 ≤ 2147483647) → (-2147483648 ≤ l4 ∧ l4 ≤ 2147483647) → (-2147483648 ≤ l5 ∧ l5 ≤ 2147483647) → I37 n l1 l2 l3 l4 l5 T → ((l5 < l4) → (0 ≤ l1) ∧ (l1 < 16) ∧ (((T 2 l1) ≤ l5) → (-2147483648 ≤ ((l3 + 0) : Int) ∧ (l3 + 0) ≤ 2147483647) ∧ (0 ≤ l2) ∧ (l2 < 16) ∧ (((T 2 l2) ≤ l5) → (-2147483648 ≤ (((l3 + 0) + 0) : Int) ∧ ((l3 + 0) + 0) ≤ 2147483647) ∧ (-2147483648 ≤ ((440 * l1) : Int) ∧ (440 * l1) ≤ 2147483647) ∧ (-2147483648 ≤ (((440 * l1) + l5) : Int) ∧ ((440 * l1) + l5) ≤ 2147483647) ∧ (0 ≤ ((440 * l1) + l5)) ∧ (((440 * l1) + l5) < 7040) ∧ (-2147483648 ≤ ((l5 + 1) : Int) ∧ (l5 + 1) ≤ 2147483647) ∧ (((l5 + 1) ≤ l4) → (∃ n1, n1 < n ∧ I37 n1 l1 l2 (((l3 + 0) + 0) / 65536) l4 (l5 + 1) (mup T 1 ((440 * l1) + l5) (((l3 + 0) + 0) % 65536)))) ∧ (¬ ((l5 + 1) ≤ l4) → (∃ n1, n1 < n ∧ I37 n1 l1 l2 (((l3 + 0) + 0) / 65536) (l5 + 1) (l5 + 1) (mup T 1 ((440 * l1) + l5) (((l3 + 0) + 0) % 65536))))) ∧ (¬ ((T 2 l2) ≤ l5) → (-2147483648 ≤ ((440 * l2) : Int) ∧ (440 * l2) ≤ 2147483647) ∧ (-2147483648 ≤ (((440 * l2) + l5) : Int) ∧ ((440 * l2) + l5) ≤ 2147483647) ∧ (0 ≤ ((440 * l2) + l5)) ∧ (((440 * l2) + l5) < 7040) ∧ (-2147483648 ≤ (((l3 + 0) + (T 1 ((440 * l2) + l5))) : Int) ∧ ((l3 + 0) + (T 1 ((440 * l2) + l5))) ≤ 2147483647) ∧ (-2147483648 ≤ ((440 * l1) : Int) ∧ (440 * l1) ≤ 2147483647) ∧ (-2147483648 ≤ (((440 * l1) + l5) : Int) ∧ ((440 * l1) + l5) ≤ 2147483647) ∧ (0 ≤ ((440 * l1) + l5)) ∧ (((440 * l1) + l5) < 7040) ∧ (-2147483648 ≤ ((l5 + 1) : Int) ∧ (l5 + 1) ≤ 2147483647) ∧ (((l5 + 1) ≤ l4) → (∃ n1, n1 < n ∧ I37 n1 l1 l2 (((l3 + 0) + (T 1 ((440 * l2) + l5))) / 65536) l4 (l5 + 1) (mup T 1 ((440 * l1) + l5) (((l3 + 0) + (T 1 ((440 * l2) + l5))) % 65536)))) ∧ (¬ ((l5 + 1) ≤ l4) → (∃ n1, n1 < n ∧ I37 n1 l1 l2 (((l3 + 0) + (T 1 ((440 * l2) + l5))) / 65536) (l5 + 1) (l5 + 1) (mup T 1 ((440 * l1) + l5) (((l3 + 0) + (T 1 ((440 * l2) + l5))) % 65536)))))) ∧ (¬ ((T 2 l1) ≤ l5) → (-2147483648 ≤ ((440 * l1) : Int) ∧ (440 * l1) ≤ 2147483647) ∧ (-2147483648 ≤ (((440 * l1) + l5) : Int) ∧ ((440 * l1) + l5) ≤ 2147483647) ∧ (0 ≤ ((440 * l1) + l5)) ∧ (((440 * l1) + l5) < 7040) ∧ (-2147483648 ≤ ((l3 + (T 1 ((440 * l1) + l5))) : Int) ∧ (l3 + (T 1 ((440 * l1) + l5))) ≤ 2147483647) ∧ (0 ≤ l2) ∧ (l2 < 16) ∧ (((T 2 l2) ≤ l5) → (-2147483648 ≤ (((l3 + (T 1 ((440 * l1) + l5))) + 0) : Int) ∧ ((l3 + (T 1 ((440 * l1) + l5))) + 0) ≤ 2147483647) ∧ (-2147483648 ≤ ((l5 + 1) : Int) ∧ (l5 + 1) ≤ 2147483647) ∧ (((l5 + 1) ≤ l4) → (∃ n1, n1 < n ∧ I37 n1 l1 l2 (((l3 + (T 1 ((440 * l1) + l5))) + 0) / 65536) l4 (l5 + 1) (mup T 1 ((440 * l1) + l5) (((l3 + (T 1 ((440 * l1) + l5))) + 0) % 65536)))) ∧ (¬ ((l5 + 1) ≤ l4) → (∃ n1, n1 < n ∧ I37 n1 l1 l2 (((l3 + (T 1 ((440 * l1) + l5))) + 0) / 65536) (l5 + 1) (l5 + 1) (mup T 1 ((440 * l1) + l5) (((l3 + (T 1 ((440 * l1) + l5))) + 0) % 65536))))) ∧ (¬ ((T 2 l2) ≤ l5) → (-2147483648 ≤ ((440 * l2) : Int) ∧ (440 * l2) ≤ 2147483647) ∧ (-2147483648 ≤ (((440 * l2) + l5) : Int) ∧ ((440 * l2) + l5) ≤ 2147483647) ∧ (0 ≤ ((440 * l2) + l5)) ∧ (((440 * l2) + l5) < 7040) ∧ (-2147483648 ≤ (((l3 + (T 1 ((440 * l1) + l5))) + (T 1 ((440 * l2) + l5))) : Int) ∧ ((l3 + (T 1 ((440 * l1) + l5))) + (T 1 ((440 * l2) + l5))) ≤ 2147483647) ∧ (-2147483648 ≤ ((l5 + 1) : Int) ∧ (l5 + 1) ≤ 2147483647) ∧ (((l5 + 1) ≤ l4) → (∃ n1, n1 < n ∧ I37 n1 l1 l2 (((l3 + (T 1 ((440 * l1) + l5))) + (T 1 ((440 * l2) + l5))) / 65536) l4 (l5 + 1) (mup T 1 ((440 * l1) + l5) (((l3 + (T 1 ((440 * l1) + l5))) + (T 1 ((440 * l2) + l5))) % 65536)))) ∧ (¬ ((l5 + 1) ≤ l4) → (∃ n1, n1 < n ∧ I37 n1 l1 l2 (((l3 + (T 1 ((440 * l1) + l5))) + (T 1 ((440 * l2) + l5))) / 65536) (l5 + 1) (l5 + 1) (mup T 1 ((440 * l1) + l5) (((l3 + (T 1 ((440 * l1) + l5))) + (T 1 ((440 * l2) + l5))) % 65536))))))) ∧ (¬ (l5 < l4) → ((l3 ≤ 0) → (0 ≤ l1) ∧ (l1 < 16) ∧ Qp none (mup T 2 l1 l4)) ∧ (¬ (l3 ≤ 0) → (0 ≤ l1) ∧ (l1 < 16) ∧ (((T 2 l1) ≤ l5) → (-2147483648 ≤ ((l3 + 0) : Int) ∧ (l3 + 0) ≤ 2147483647) ∧ (0 ≤ l2) ∧ (l2 < 16) ∧ (((T 2 l2) ≤ l5) → (-2147483648 ≤ (((l3 + 0) + 0) : Int) ∧ ((l3 + 0) + 0) ≤ 2147483647) ∧ (-2147483648 ≤ ((440 * l1) : Int) ∧ (440 * l1) ≤ 2147483647) ∧ (-2147483648 ≤ (((440 * l1) + l5) : Int) ∧ ((440 * l1) + l5) ≤ 2147483647) ∧ (0 ≤ ((440 * l1) + l5)) ∧ (((440 * l1) + l5) < 7040) ∧ (-2147483648 ≤ ((l5 + 1) : Int) ∧ (l5 + 1) ≤ 2147483647) ∧ (((l5 + 1) ≤ l4) → (∃ n1, n1 < n ∧ I37 n1 l1 l2 (((l3 + 0) + 0) / 65536) l4 (l5 + 1) (mup T 1 ((440 * l1) + l5) (((l3 + 0) + 0) % 65536)))) ∧ (¬ ((l5 + 1) ≤ l4) → (∃ n1, n1 < n ∧ I37 n1 l1 l2 (((l3 + 0) + 0) / 65536) (l5 + 1) (l5 + 1) (mup T 1 ((440 * l1) + l5) (((l3 + 0) + 0) % 65536))))) ∧ (¬ ((T 2 l2) ≤ l5) → (-2147483648 ≤ ((440 * l2) : Int) ∧ (440 * l2) ≤ 2147483647) ∧ (-2147483648 ≤ (((440 * l2) + l5) : Int) ∧ ((440 * l2) + l5) ≤ 2147483647) ∧ (0 ≤ ((440 * l2) + l5)) ∧ (((440 * l2) + l5) < 7040) ∧ (-2147483648 ≤ (((l3 + 0) + (T 1 ((440 * l2) + l5))) : Int) ∧ ((l3 + 0) + (T 1 ((440 * l2) + l5))) ≤ 2147483647) ∧ (-2147483648 ≤ ((440 * l1) : Int) ∧ (440 * l1) ≤ 2147483647) ∧ (-2147483648 ≤ (((440 * l1) + l5) : Int) ∧ ((440 * l1) + l5) ≤ 2147483647) ∧ (0 ≤ ((440 * l1) + l5)) ∧ (((440 * l1) + l5) < 7040) ∧ (-2147483648 ≤ ((l5 + 1) : Int) ∧ (l5 + 1) ≤ 2147483647) ∧ (((l5 + 1) ≤ l4) → (∃ n1, n1 < n ∧ I37 n1 l1 l2 (((l3 + 0) + (T 1 ((440 * l2) + l5))) / 65536) l4 (l5 + 1) (mup T 1 ((440 * l1) + l5) (((l3 + 0) + (T 1 ((440 * l2) + l5))) % 65536)))) ∧ (¬ ((l5 + 1) ≤ l4) → (∃ n1, n1 < n ∧ I37 n1 l1 l2 (((l3 + 0) + (T 1 ((440 * l2) + l5))) / 65536) (l5 + 1) (l5 + 1) (mup T 1 ((440 * l1) + l5) (((l3 + 0) + (T 1 ((440 * l2) + l5))) % 65536)))))) ∧ (¬ ((T 2 l1) ≤ l5) → (-2147483648 ≤ ((440 * l1) : Int) ∧ (440 * l1) ≤ 2147483647) ∧ (-2147483648 ≤ (((440 * l1) + l5) : Int) ∧ ((440 * l1) + l5) ≤ 2147483647) ∧ (0 ≤ ((440 * l1) + l5)) ∧ (((440 * l1) + l5) < 7040) ∧ (-2147483648 ≤ ((l3 + (T 1 ((440 * l1) + l5))) : Int) ∧ (l3 + (T 1 ((440 * l1) + l5))) ≤ 2147483647) ∧ (0 ≤ l2) ∧ (l2 < 16) ∧ (((T 2 l2) ≤ l5) → (-2147483648 ≤ (((l3 + (T 1 ((440 * l1) + l5))) + 0) : Int) ∧ ((l3 + (T 1 ((440 * l1) + l5))) + 0) ≤ 2147483647) ∧ (-2147483648 ≤ ((l5 + 1) : Int) ∧ (l5 + 1) ≤ 2147483647) ∧ (((l5 + 1) ≤ l4) → (∃ n1, n1 < n ∧ I37 n1 l1 l2 (((l3 + (T 1 ((440 * l1) + l5))) + 0) / 65536) l4 (l5 + 1) (mup T 1 ((440 * l1) + l5) (((l3 + (T 1 ((440 * l1) + l5))) + 0) % 65536)))) ∧ (¬ ((l5 + 1) ≤ l4) → (∃ n1, n1 < n ∧ I37 n1 l1 l2 (((l3 + (T 1 ((440 * l1) + l5))) + 0) / 65536) (l5 + 1) (l5 + 1) (mup T 1 ((440 * l1) + l5) (((l3 + (T 1 ((440 * l1) + l5))) + 0) % 65536))))) ∧ (¬ ((T 2 l2) ≤ l5) → (-2147483648 ≤ ((440 * l2) : Int) ∧ (440 * l2) ≤ 2147483647) ∧ (-2147483648 ≤ (((440 * l2) + l5) : Int) ∧ ((440 * l2) + l5) ≤ 2147483647) ∧ (0 ≤ ((440 * l2) + l5)) ∧ (((440 * l2) + l5) < 7040) ∧ (-2147483648 ≤ (((l3 + (T 1 ((440 * l1) + l5))) + (T 1 ((440 * l2) + l5))) : Int) ∧ ((l3 + (T 1 ((440 * l1) + l5))) + (T 1 ((440 * l2) + l5))) ≤ 2147483647) ∧ (-2147483648 ≤ ((l5 + 1) : Int) ∧ (l5 + 1) ≤ 2147483647) ∧ (((l5 + 1) ≤ l4) → (∃ n1, n1 < n ∧ I37 n1 l1 l2 (((l3 + (T 1 ((440 * l1) + l5))) + (T 1 ((440 * l2) + l5))) / 65536) l4 (l5 + 1) (mup T 1 ((440 * l1) + l5) (((l3 + (T 1 ((440 * l1) + l5))) + (T 1 ((440 * l2) + l5))) % 65536)))) ∧ (¬ ((l5 + 1) ≤ l4) → (∃ n1, n1 < n ∧ I37 n1 l1 l2 (((l3 + (T 1 ((440 * l1) + l5))) + (T 1 ((440 * l2) + l5))) / 65536) (l5 + 1) (l5 + 1) (mup T 1 ((440 * l1) + l5) (((l3 + (T 1 ((440 * l1) + l5))) + (T 1 ((440 * l2) + l5))) % 65536)))))))))
    : CX_plus g [mt, mi a1, mi a2] S Qp := by
  refine cm_y ⟨by decide, rfl⟩ (by simp [mcat]) (by simp) (fun n pc L st S => (pc = 37 ∧ ∃ (l1 : Int) (l2 : Int) (l3 : Int) (l4 : Int) (l5 : Int), L = [some mt, some (mi l1), some (mi l2), some (mi l3), some (mi l4), some (mi l5), none] ∧ st = [] ∧ I37 n l1 l2 l3 l4 l5 S)) ?_ ?_
  · intro ha hS P Y Wk hIc
    have h := hE hS (mokI (ha (mi a1) (by simp))) (mokI (ha (mi a2) (by simp)))
    clear hE ha h37
    refine y_iconst 0 Y dX6_plus_0 rfl ?_
    refine y_istore_n 1 Y [some mt, some (mi a1), some (mi a2), some (mi 0), none, none, none] dX6_plus_1 rfl rfl ?_
    refine y_aload_n 2 Y dX6_plus_2 rfl ?_
    refine y_geta 3 Y 2 dX6_plus_3 rfl rfl ?_
    refine y_iload_n 6 Y dX6_plus_6 rfl ?_
    obtain ⟨o1, h⟩ := h
    obtain ⟨o2, h⟩ := h
    refine y_iald 7 Y dX6_plus_7 rfl rfl o1 o2 (fun _ => ?_)
    refine y_aload_n 8 Y dX6_plus_8 rfl ?_
    refine y_geta 9 Y 2 dX6_plus_9 rfl rfl ?_
    refine y_iload_n 12 Y dX6_plus_12 rfl ?_
    obtain ⟨o3, h⟩ := h
    obtain ⟨o4, h⟩ := h
    refine y_iald 13 Y dX6_plus_13 rfl rfl o3 o4 (fun _ => ?_)
    refine y_icmp 14 26 Y dX6_plus_14 rfl rfl (fun c => ?_) (fun c => ?_)
    · replace h := h.1 c
      refine y_aload_n 26 Y dX6_plus_26 rfl ?_
      refine y_geta 27 Y 2 dX6_plus_27 rfl rfl ?_
      refine y_iload_n 30 Y dX6_plus_30 rfl ?_
      refine y_iald 31 Y dX6_plus_31 rfl rfl o3 o4 (fun _ => ?_)
      refine y_istore 32 Y [some mt, some (mi a1), some (mi a2), some (mi 0), some (mi (S 2 a2)), none, none] dX6_plus_32 rfl rfl ?_
      refine y_iconst 34 Y dX6_plus_34 rfl ?_
      refine y_istore 35 Y [some mt, some (mi a1), some (mi a2), some (mi 0), some (mi (S 2 a2)), some (mi 0), none] dX6_plus_35 rfl rfl ?_
      obtain ⟨n1, h⟩ := h
      exact Wk 37 _ [some mt, some (mi a1), some (mi a2), some (mi 0), some (mi (S 2 a2)), some (mi 0), none] _ _ ⟨rfl, ⟨rfl, ⟨rfl, ⟨rfl, ⟨rfl, ⟨rfl, trivial⟩⟩⟩⟩⟩⟩ (hIc n1 _ _ _ _ ((⟨rfl, _, _, _, _, _, rfl, rfl, h⟩)))
    · replace h := h.2 c
      refine y_aload_n 17 Y dX6_plus_17 rfl ?_
      refine y_geta 18 Y 2 dX6_plus_18 rfl rfl ?_
      refine y_iload_n 21 Y dX6_plus_21 rfl ?_
      refine y_iald 22 Y dX6_plus_22 rfl rfl o1 o2 (fun _ => ?_)
      refine y_goto 23 32 Y dX6_plus_23 rfl rfl ?_
      refine y_istore 32 Y [some mt, some (mi a1), some (mi a2), some (mi 0), some (mi (S 2 a1)), none, none] dX6_plus_32 rfl rfl ?_
      refine y_iconst 34 Y dX6_plus_34 rfl ?_
      refine y_istore 35 Y [some mt, some (mi a1), some (mi a2), some (mi 0), some (mi (S 2 a1)), some (mi 0), none] dX6_plus_35 rfl rfl ?_
      obtain ⟨n1, h⟩ := h
      exact Wk 37 _ [some mt, some (mi a1), some (mi a2), some (mi 0), some (mi (S 2 a1)), some (mi 0), none] _ _ ⟨rfl, ⟨rfl, ⟨rfl, ⟨rfl, ⟨rfl, ⟨rfl, trivial⟩⟩⟩⟩⟩⟩ (hIc n1 _ _ _ _ ((⟨rfl, _, _, _, _, _, rfl, rfl, h⟩)))
  · intro n pc L st T hi hS hL P Y Wk hIc
    clear hE
    rcases hi with ⟨rfl, l1, l2, l3, l4, l5, rfl, rfl, hi⟩
    · have h := h37 n l1 l2 l3 l4 l5 T hS (hL 1 _ rfl) (hL 2 _ rfl) (hL 3 _ rfl) (hL 4 _ rfl) (hL 5 _ rfl) hi
      clear hL hi h37
      refine y_iload 37 Y dX6_plus_37 rfl ?_
      refine y_iload 39 Y dX6_plus_39 rfl ?_
      refine y_icmp 41 48 Y dX6_plus_41 rfl rfl (fun c => ?_) (fun c => ?_)
      · replace h := h.1 c
        refine y_iload_n 48 Y dX6_plus_48 rfl ?_
        refine y_iload 49 Y dX6_plus_49 rfl ?_
        refine y_aload_n 51 Y dX6_plus_51 rfl ?_
        refine y_geta 52 Y 2 dX6_plus_52 rfl rfl ?_
        refine y_iload_n 55 Y dX6_plus_55 rfl ?_
        obtain ⟨o1, h⟩ := h
        obtain ⟨o2, h⟩ := h
        refine y_iald 56 Y dX6_plus_56 rfl rfl o1 o2 (fun _ => ?_)
        refine y_icmp 57 76 Y dX6_plus_57 rfl rfl (fun c => ?_) (fun c => ?_)
        · replace h := h.1 c
          refine y_iconst 76 Y dX6_plus_76 rfl ?_
          obtain ⟨o3, h⟩ := h
          refine y_iadd 77 Y dX6_plus_77 o3 ?_
          refine y_iload 78 Y dX6_plus_78 rfl ?_
          refine y_aload_n 80 Y dX6_plus_80 rfl ?_
          refine y_geta 81 Y 2 dX6_plus_81 rfl rfl ?_
          refine y_iload_n 84 Y dX6_plus_84 rfl ?_
          obtain ⟨o4, h⟩ := h
          obtain ⟨o5, h⟩ := h
          refine y_iald 85 Y dX6_plus_85 rfl rfl o4 o5 (fun _ => ?_)
          refine y_icmp 86 105 Y dX6_plus_86 rfl rfl (fun c => ?_) (fun c => ?_)
          · replace h := h.1 c
            refine y_iconst 105 Y dX6_plus_105 rfl ?_
            obtain ⟨o6, h⟩ := h
            refine y_iadd 106 Y dX6_plus_106 o6 ?_
            refine y_istore 107 Y [some mt, some (mi l1), some (mi l2), some (mi l3), some (mi l4), some (mi l5), some (mi ((l3 + 0) + 0))] dX6_plus_107 rfl rfl ?_
            refine y_aload_n 109 Y dX6_plus_109 rfl ?_
            refine y_geta 110 Y 1 dX6_plus_110 rfl rfl ?_
            refine y_sipush 113 Y dX6_plus_113 rfl ?_
            refine y_iload_n 116 Y dX6_plus_116 rfl ?_
            obtain ⟨o7, h⟩ := h
            refine y_imul 117 Y dX6_plus_117 o7 ?_
            refine y_iload 118 Y dX6_plus_118 rfl ?_
            obtain ⟨o8, h⟩ := h
            refine y_iadd 120 Y dX6_plus_120 o8 ?_
            refine y_iload 121 Y dX6_plus_121 rfl ?_
            refine y_ldc 123 Y dX6_plus_123 rfl ?_
            refine y_iand 125 Y dX6_plus_125 mm_65535 ?_
            obtain ⟨o9, h⟩ := h
            obtain ⟨o10, h⟩ := h
            refine y_iast 126 Y dX6_plus_126 rfl rfl o9 o10 ?_
            refine y_iload 127 Y dX6_plus_127 rfl ?_
            refine y_bipush 129 Y dX6_plus_129 rfl ?_
            refine y_ishr 131 Y 65536 rfl dX6_plus_131 (by decide) (by decide) ?_
            refine y_istore_n 132 Y [some mt, some (mi l1), some (mi l2), some (mi (((l3 + 0) + 0) / 65536)), some (mi l4), some (mi l5), some (mi ((l3 + 0) + 0))] dX6_plus_132 rfl rfl ?_
            refine y_iload 133 Y dX6_plus_133 rfl ?_
            refine y_iconst 135 Y dX6_plus_135 rfl ?_
            obtain ⟨o11, h⟩ := h
            refine y_iadd 136 Y dX6_plus_136 o11 ?_
            refine y_iload 137 Y dX6_plus_137 rfl ?_
            refine y_icmp 139 149 Y dX6_plus_139 rfl rfl (fun c => ?_) (fun c => ?_)
            · replace h := h.1 c
              refine y_iload 149 Y dX6_plus_149 rfl ?_
              refine y_istore 151 Y [some mt, some (mi l1), some (mi l2), some (mi (((l3 + 0) + 0) / 65536)), some (mi l4), some (mi l5), some (mi ((l3 + 0) + 0))] dX6_plus_151 rfl rfl ?_
              refine y_iinc 153 Y [some mt, some (mi l1), some (mi l2), some (mi (((l3 + 0) + 0) / 65536)), some (mi l4), some (mi (l5 + 1)), some (mi ((l3 + 0) + 0))] dX6_plus_153 rfl rfl o11 ?_
              refine y_goto 156 37 Y dX6_plus_156 rfl rfl ?_
              obtain ⟨n1, hn, h⟩ := h
              exact Wk 37 _ [some mt, some (mi l1), some (mi l2), some (mi (((l3 + 0) + 0) / 65536)), some (mi l4), some (mi (l5 + 1)), none] _ _ ⟨rfl, ⟨rfl, ⟨rfl, ⟨rfl, ⟨rfl, ⟨rfl, trivial⟩⟩⟩⟩⟩⟩ (hIc n1 _ _ _ _ hn ((⟨rfl, _, _, _, _, _, rfl, rfl, h⟩)))
            · replace h := h.2 c
              refine y_iload 142 Y dX6_plus_142 rfl ?_
              refine y_iconst 144 Y dX6_plus_144 rfl ?_
              refine y_iadd 145 Y dX6_plus_145 o11 ?_
              refine y_goto 146 151 Y dX6_plus_146 rfl rfl ?_
              refine y_istore 151 Y [some mt, some (mi l1), some (mi l2), some (mi (((l3 + 0) + 0) / 65536)), some (mi (l5 + 1)), some (mi l5), some (mi ((l3 + 0) + 0))] dX6_plus_151 rfl rfl ?_
              refine y_iinc 153 Y [some mt, some (mi l1), some (mi l2), some (mi (((l3 + 0) + 0) / 65536)), some (mi (l5 + 1)), some (mi (l5 + 1)), some (mi ((l3 + 0) + 0))] dX6_plus_153 rfl rfl o11 ?_
              refine y_goto 156 37 Y dX6_plus_156 rfl rfl ?_
              obtain ⟨n1, hn, h⟩ := h
              exact Wk 37 _ [some mt, some (mi l1), some (mi l2), some (mi (((l3 + 0) + 0) / 65536)), some (mi (l5 + 1)), some (mi (l5 + 1)), none] _ _ ⟨rfl, ⟨rfl, ⟨rfl, ⟨rfl, ⟨rfl, ⟨rfl, trivial⟩⟩⟩⟩⟩⟩ (hIc n1 _ _ _ _ hn ((⟨rfl, _, _, _, _, _, rfl, rfl, h⟩)))
          · replace h := h.2 c
            refine y_aload_n 89 Y dX6_plus_89 rfl ?_
            refine y_geta 90 Y 1 dX6_plus_90 rfl rfl ?_
            refine y_sipush 93 Y dX6_plus_93 rfl ?_
            refine y_iload_n 96 Y dX6_plus_96 rfl ?_
            obtain ⟨o12, h⟩ := h
            refine y_imul 97 Y dX6_plus_97 o12 ?_
            refine y_iload 98 Y dX6_plus_98 rfl ?_
            obtain ⟨o13, h⟩ := h
            refine y_iadd 100 Y dX6_plus_100 o13 ?_
            obtain ⟨o14, h⟩ := h
            obtain ⟨o15, h⟩ := h
            refine y_iald 101 Y dX6_plus_101 rfl rfl o14 o15 (fun _ => ?_)
            refine y_goto 102 106 Y dX6_plus_102 rfl rfl ?_
            obtain ⟨o16, h⟩ := h
            refine y_iadd 106 Y dX6_plus_106 o16 ?_
            refine y_istore 107 Y [some mt, some (mi l1), some (mi l2), some (mi l3), some (mi l4), some (mi l5), some (mi ((l3 + 0) + (T 1 ((440 * l2) + l5))))] dX6_plus_107 rfl rfl ?_
            refine y_aload_n 109 Y dX6_plus_109 rfl ?_
            refine y_geta 110 Y 1 dX6_plus_110 rfl rfl ?_
            refine y_sipush 113 Y dX6_plus_113 rfl ?_
            refine y_iload_n 116 Y dX6_plus_116 rfl ?_
            obtain ⟨o17, h⟩ := h
            refine y_imul 117 Y dX6_plus_117 o17 ?_
            refine y_iload 118 Y dX6_plus_118 rfl ?_
            obtain ⟨o18, h⟩ := h
            refine y_iadd 120 Y dX6_plus_120 o18 ?_
            refine y_iload 121 Y dX6_plus_121 rfl ?_
            refine y_ldc 123 Y dX6_plus_123 rfl ?_
            refine y_iand 125 Y dX6_plus_125 mm_65535 ?_
            obtain ⟨o19, h⟩ := h
            obtain ⟨o20, h⟩ := h
            refine y_iast 126 Y dX6_plus_126 rfl rfl o19 o20 ?_
            refine y_iload 127 Y dX6_plus_127 rfl ?_
            refine y_bipush 129 Y dX6_plus_129 rfl ?_
            refine y_ishr 131 Y 65536 rfl dX6_plus_131 (by decide) (by decide) ?_
            refine y_istore_n 132 Y [some mt, some (mi l1), some (mi l2), some (mi (((l3 + 0) + (T 1 ((440 * l2) + l5))) / 65536)), some (mi l4), some (mi l5), some (mi ((l3 + 0) + (T 1 ((440 * l2) + l5))))] dX6_plus_132 rfl rfl ?_
            refine y_iload 133 Y dX6_plus_133 rfl ?_
            refine y_iconst 135 Y dX6_plus_135 rfl ?_
            obtain ⟨o21, h⟩ := h
            refine y_iadd 136 Y dX6_plus_136 o21 ?_
            refine y_iload 137 Y dX6_plus_137 rfl ?_
            refine y_icmp 139 149 Y dX6_plus_139 rfl rfl (fun c => ?_) (fun c => ?_)
            · replace h := h.1 c
              refine y_iload 149 Y dX6_plus_149 rfl ?_
              refine y_istore 151 Y [some mt, some (mi l1), some (mi l2), some (mi (((l3 + 0) + (T 1 ((440 * l2) + l5))) / 65536)), some (mi l4), some (mi l5), some (mi ((l3 + 0) + (T 1 ((440 * l2) + l5))))] dX6_plus_151 rfl rfl ?_
              refine y_iinc 153 Y [some mt, some (mi l1), some (mi l2), some (mi (((l3 + 0) + (T 1 ((440 * l2) + l5))) / 65536)), some (mi l4), some (mi (l5 + 1)), some (mi ((l3 + 0) + (T 1 ((440 * l2) + l5))))] dX6_plus_153 rfl rfl o21 ?_
              refine y_goto 156 37 Y dX6_plus_156 rfl rfl ?_
              obtain ⟨n1, hn, h⟩ := h
              exact Wk 37 _ [some mt, some (mi l1), some (mi l2), some (mi (((l3 + 0) + (T 1 ((440 * l2) + l5))) / 65536)), some (mi l4), some (mi (l5 + 1)), none] _ _ ⟨rfl, ⟨rfl, ⟨rfl, ⟨rfl, ⟨rfl, ⟨rfl, trivial⟩⟩⟩⟩⟩⟩ (hIc n1 _ _ _ _ hn ((⟨rfl, _, _, _, _, _, rfl, rfl, h⟩)))
            · replace h := h.2 c
              refine y_iload 142 Y dX6_plus_142 rfl ?_
              refine y_iconst 144 Y dX6_plus_144 rfl ?_
              refine y_iadd 145 Y dX6_plus_145 o21 ?_
              refine y_goto 146 151 Y dX6_plus_146 rfl rfl ?_
              refine y_istore 151 Y [some mt, some (mi l1), some (mi l2), some (mi (((l3 + 0) + (T 1 ((440 * l2) + l5))) / 65536)), some (mi (l5 + 1)), some (mi l5), some (mi ((l3 + 0) + (T 1 ((440 * l2) + l5))))] dX6_plus_151 rfl rfl ?_
              refine y_iinc 153 Y [some mt, some (mi l1), some (mi l2), some (mi (((l3 + 0) + (T 1 ((440 * l2) + l5))) / 65536)), some (mi (l5 + 1)), some (mi (l5 + 1)), some (mi ((l3 + 0) + (T 1 ((440 * l2) + l5))))] dX6_plus_153 rfl rfl o21 ?_
              refine y_goto 156 37 Y dX6_plus_156 rfl rfl ?_
              obtain ⟨n1, hn, h⟩ := h
              exact Wk 37 _ [some mt, some (mi l1), some (mi l2), some (mi (((l3 + 0) + (T 1 ((440 * l2) + l5))) / 65536)), some (mi (l5 + 1)), some (mi (l5 + 1)), none] _ _ ⟨rfl, ⟨rfl, ⟨rfl, ⟨rfl, ⟨rfl, ⟨rfl, trivial⟩⟩⟩⟩⟩⟩ (hIc n1 _ _ _ _ hn ((⟨rfl, _, _, _, _, _, rfl, rfl, h⟩)))
        · replace h := h.2 c
          refine y_aload_n 60 Y dX6_plus_60 rfl ?_
          refine y_geta 61 Y 1 dX6_plus_61 rfl rfl ?_
          refine y_sipush 64 Y dX6_plus_64 rfl ?_
          refine y_iload_n 67 Y dX6_plus_67 rfl ?_
          obtain ⟨o22, h⟩ := h
          refine y_imul 68 Y dX6_plus_68 o22 ?_
          refine y_iload 69 Y dX6_plus_69 rfl ?_
          obtain ⟨o23, h⟩ := h
          refine y_iadd 71 Y dX6_plus_71 o23 ?_
          obtain ⟨o24, h⟩ := h
          obtain ⟨o25, h⟩ := h
          refine y_iald 72 Y dX6_plus_72 rfl rfl o24 o25 (fun _ => ?_)
          refine y_goto 73 77 Y dX6_plus_73 rfl rfl ?_
          obtain ⟨o26, h⟩ := h
          refine y_iadd 77 Y dX6_plus_77 o26 ?_
          refine y_iload 78 Y dX6_plus_78 rfl ?_
          refine y_aload_n 80 Y dX6_plus_80 rfl ?_
          refine y_geta 81 Y 2 dX6_plus_81 rfl rfl ?_
          refine y_iload_n 84 Y dX6_plus_84 rfl ?_
          obtain ⟨o27, h⟩ := h
          obtain ⟨o28, h⟩ := h
          refine y_iald 85 Y dX6_plus_85 rfl rfl o27 o28 (fun _ => ?_)
          refine y_icmp 86 105 Y dX6_plus_86 rfl rfl (fun c => ?_) (fun c => ?_)
          · replace h := h.1 c
            refine y_iconst 105 Y dX6_plus_105 rfl ?_
            obtain ⟨o29, h⟩ := h
            refine y_iadd 106 Y dX6_plus_106 o29 ?_
            refine y_istore 107 Y [some mt, some (mi l1), some (mi l2), some (mi l3), some (mi l4), some (mi l5), some (mi ((l3 + (T 1 ((440 * l1) + l5))) + 0))] dX6_plus_107 rfl rfl ?_
            refine y_aload_n 109 Y dX6_plus_109 rfl ?_
            refine y_geta 110 Y 1 dX6_plus_110 rfl rfl ?_
            refine y_sipush 113 Y dX6_plus_113 rfl ?_
            refine y_iload_n 116 Y dX6_plus_116 rfl ?_
            refine y_imul 117 Y dX6_plus_117 o22 ?_
            refine y_iload 118 Y dX6_plus_118 rfl ?_
            refine y_iadd 120 Y dX6_plus_120 o23 ?_
            refine y_iload 121 Y dX6_plus_121 rfl ?_
            refine y_ldc 123 Y dX6_plus_123 rfl ?_
            refine y_iand 125 Y dX6_plus_125 mm_65535 ?_
            refine y_iast 126 Y dX6_plus_126 rfl rfl o24 o25 ?_
            refine y_iload 127 Y dX6_plus_127 rfl ?_
            refine y_bipush 129 Y dX6_plus_129 rfl ?_
            refine y_ishr 131 Y 65536 rfl dX6_plus_131 (by decide) (by decide) ?_
            refine y_istore_n 132 Y [some mt, some (mi l1), some (mi l2), some (mi (((l3 + (T 1 ((440 * l1) + l5))) + 0) / 65536)), some (mi l4), some (mi l5), some (mi ((l3 + (T 1 ((440 * l1) + l5))) + 0))] dX6_plus_132 rfl rfl ?_
            refine y_iload 133 Y dX6_plus_133 rfl ?_
            refine y_iconst 135 Y dX6_plus_135 rfl ?_
            obtain ⟨o30, h⟩ := h
            refine y_iadd 136 Y dX6_plus_136 o30 ?_
            refine y_iload 137 Y dX6_plus_137 rfl ?_
            refine y_icmp 139 149 Y dX6_plus_139 rfl rfl (fun c => ?_) (fun c => ?_)
            · replace h := h.1 c
              refine y_iload 149 Y dX6_plus_149 rfl ?_
              refine y_istore 151 Y [some mt, some (mi l1), some (mi l2), some (mi (((l3 + (T 1 ((440 * l1) + l5))) + 0) / 65536)), some (mi l4), some (mi l5), some (mi ((l3 + (T 1 ((440 * l1) + l5))) + 0))] dX6_plus_151 rfl rfl ?_
              refine y_iinc 153 Y [some mt, some (mi l1), some (mi l2), some (mi (((l3 + (T 1 ((440 * l1) + l5))) + 0) / 65536)), some (mi l4), some (mi (l5 + 1)), some (mi ((l3 + (T 1 ((440 * l1) + l5))) + 0))] dX6_plus_153 rfl rfl o30 ?_
              refine y_goto 156 37 Y dX6_plus_156 rfl rfl ?_
              obtain ⟨n1, hn, h⟩ := h
              exact Wk 37 _ [some mt, some (mi l1), some (mi l2), some (mi (((l3 + (T 1 ((440 * l1) + l5))) + 0) / 65536)), some (mi l4), some (mi (l5 + 1)), none] _ _ ⟨rfl, ⟨rfl, ⟨rfl, ⟨rfl, ⟨rfl, ⟨rfl, trivial⟩⟩⟩⟩⟩⟩ (hIc n1 _ _ _ _ hn ((⟨rfl, _, _, _, _, _, rfl, rfl, h⟩)))
            · replace h := h.2 c
              refine y_iload 142 Y dX6_plus_142 rfl ?_
              refine y_iconst 144 Y dX6_plus_144 rfl ?_
              refine y_iadd 145 Y dX6_plus_145 o30 ?_
              refine y_goto 146 151 Y dX6_plus_146 rfl rfl ?_
              refine y_istore 151 Y [some mt, some (mi l1), some (mi l2), some (mi (((l3 + (T 1 ((440 * l1) + l5))) + 0) / 65536)), some (mi (l5 + 1)), some (mi l5), some (mi ((l3 + (T 1 ((440 * l1) + l5))) + 0))] dX6_plus_151 rfl rfl ?_
              refine y_iinc 153 Y [some mt, some (mi l1), some (mi l2), some (mi (((l3 + (T 1 ((440 * l1) + l5))) + 0) / 65536)), some (mi (l5 + 1)), some (mi (l5 + 1)), some (mi ((l3 + (T 1 ((440 * l1) + l5))) + 0))] dX6_plus_153 rfl rfl o30 ?_
              refine y_goto 156 37 Y dX6_plus_156 rfl rfl ?_
              obtain ⟨n1, hn, h⟩ := h
              exact Wk 37 _ [some mt, some (mi l1), some (mi l2), some (mi (((l3 + (T 1 ((440 * l1) + l5))) + 0) / 65536)), some (mi (l5 + 1)), some (mi (l5 + 1)), none] _ _ ⟨rfl, ⟨rfl, ⟨rfl, ⟨rfl, ⟨rfl, ⟨rfl, trivial⟩⟩⟩⟩⟩⟩ (hIc n1 _ _ _ _ hn ((⟨rfl, _, _, _, _, _, rfl, rfl, h⟩)))
          · replace h := h.2 c
            refine y_aload_n 89 Y dX6_plus_89 rfl ?_
            refine y_geta 90 Y 1 dX6_plus_90 rfl rfl ?_
            refine y_sipush 93 Y dX6_plus_93 rfl ?_
            refine y_iload_n 96 Y dX6_plus_96 rfl ?_
            obtain ⟨o31, h⟩ := h
            refine y_imul 97 Y dX6_plus_97 o31 ?_
            refine y_iload 98 Y dX6_plus_98 rfl ?_
            obtain ⟨o32, h⟩ := h
            refine y_iadd 100 Y dX6_plus_100 o32 ?_
            obtain ⟨o33, h⟩ := h
            obtain ⟨o34, h⟩ := h
            refine y_iald 101 Y dX6_plus_101 rfl rfl o33 o34 (fun _ => ?_)
            refine y_goto 102 106 Y dX6_plus_102 rfl rfl ?_
            obtain ⟨o35, h⟩ := h
            refine y_iadd 106 Y dX6_plus_106 o35 ?_
            refine y_istore 107 Y [some mt, some (mi l1), some (mi l2), some (mi l3), some (mi l4), some (mi l5), some (mi ((l3 + (T 1 ((440 * l1) + l5))) + (T 1 ((440 * l2) + l5))))] dX6_plus_107 rfl rfl ?_
            refine y_aload_n 109 Y dX6_plus_109 rfl ?_
            refine y_geta 110 Y 1 dX6_plus_110 rfl rfl ?_
            refine y_sipush 113 Y dX6_plus_113 rfl ?_
            refine y_iload_n 116 Y dX6_plus_116 rfl ?_
            refine y_imul 117 Y dX6_plus_117 o22 ?_
            refine y_iload 118 Y dX6_plus_118 rfl ?_
            refine y_iadd 120 Y dX6_plus_120 o23 ?_
            refine y_iload 121 Y dX6_plus_121 rfl ?_
            refine y_ldc 123 Y dX6_plus_123 rfl ?_
            refine y_iand 125 Y dX6_plus_125 mm_65535 ?_
            refine y_iast 126 Y dX6_plus_126 rfl rfl o24 o25 ?_
            refine y_iload 127 Y dX6_plus_127 rfl ?_
            refine y_bipush 129 Y dX6_plus_129 rfl ?_
            refine y_ishr 131 Y 65536 rfl dX6_plus_131 (by decide) (by decide) ?_
            refine y_istore_n 132 Y [some mt, some (mi l1), some (mi l2), some (mi (((l3 + (T 1 ((440 * l1) + l5))) + (T 1 ((440 * l2) + l5))) / 65536)), some (mi l4), some (mi l5), some (mi ((l3 + (T 1 ((440 * l1) + l5))) + (T 1 ((440 * l2) + l5))))] dX6_plus_132 rfl rfl ?_
            refine y_iload 133 Y dX6_plus_133 rfl ?_
            refine y_iconst 135 Y dX6_plus_135 rfl ?_
            obtain ⟨o36, h⟩ := h
            refine y_iadd 136 Y dX6_plus_136 o36 ?_
            refine y_iload 137 Y dX6_plus_137 rfl ?_
            refine y_icmp 139 149 Y dX6_plus_139 rfl rfl (fun c => ?_) (fun c => ?_)
            · replace h := h.1 c
              refine y_iload 149 Y dX6_plus_149 rfl ?_
              refine y_istore 151 Y [some mt, some (mi l1), some (mi l2), some (mi (((l3 + (T 1 ((440 * l1) + l5))) + (T 1 ((440 * l2) + l5))) / 65536)), some (mi l4), some (mi l5), some (mi ((l3 + (T 1 ((440 * l1) + l5))) + (T 1 ((440 * l2) + l5))))] dX6_plus_151 rfl rfl ?_
              refine y_iinc 153 Y [some mt, some (mi l1), some (mi l2), some (mi (((l3 + (T 1 ((440 * l1) + l5))) + (T 1 ((440 * l2) + l5))) / 65536)), some (mi l4), some (mi (l5 + 1)), some (mi ((l3 + (T 1 ((440 * l1) + l5))) + (T 1 ((440 * l2) + l5))))] dX6_plus_153 rfl rfl o36 ?_
              refine y_goto 156 37 Y dX6_plus_156 rfl rfl ?_
              obtain ⟨n1, hn, h⟩ := h
              exact Wk 37 _ [some mt, some (mi l1), some (mi l2), some (mi (((l3 + (T 1 ((440 * l1) + l5))) + (T 1 ((440 * l2) + l5))) / 65536)), some (mi l4), some (mi (l5 + 1)), none] _ _ ⟨rfl, ⟨rfl, ⟨rfl, ⟨rfl, ⟨rfl, ⟨rfl, trivial⟩⟩⟩⟩⟩⟩ (hIc n1 _ _ _ _ hn ((⟨rfl, _, _, _, _, _, rfl, rfl, h⟩)))
            · replace h := h.2 c
              refine y_iload 142 Y dX6_plus_142 rfl ?_
              refine y_iconst 144 Y dX6_plus_144 rfl ?_
              refine y_iadd 145 Y dX6_plus_145 o36 ?_
              refine y_goto 146 151 Y dX6_plus_146 rfl rfl ?_
              refine y_istore 151 Y [some mt, some (mi l1), some (mi l2), some (mi (((l3 + (T 1 ((440 * l1) + l5))) + (T 1 ((440 * l2) + l5))) / 65536)), some (mi (l5 + 1)), some (mi l5), some (mi ((l3 + (T 1 ((440 * l1) + l5))) + (T 1 ((440 * l2) + l5))))] dX6_plus_151 rfl rfl ?_
              refine y_iinc 153 Y [some mt, some (mi l1), some (mi l2), some (mi (((l3 + (T 1 ((440 * l1) + l5))) + (T 1 ((440 * l2) + l5))) / 65536)), some (mi (l5 + 1)), some (mi (l5 + 1)), some (mi ((l3 + (T 1 ((440 * l1) + l5))) + (T 1 ((440 * l2) + l5))))] dX6_plus_153 rfl rfl o36 ?_
              refine y_goto 156 37 Y dX6_plus_156 rfl rfl ?_
              obtain ⟨n1, hn, h⟩ := h
              exact Wk 37 _ [some mt, some (mi l1), some (mi l2), some (mi (((l3 + (T 1 ((440 * l1) + l5))) + (T 1 ((440 * l2) + l5))) / 65536)), some (mi (l5 + 1)), some (mi (l5 + 1)), none] _ _ ⟨rfl, ⟨rfl, ⟨rfl, ⟨rfl, ⟨rfl, ⟨rfl, trivial⟩⟩⟩⟩⟩⟩ (hIc n1 _ _ _ _ hn ((⟨rfl, _, _, _, _, _, rfl, rfl, h⟩)))
      · replace h := h.2 c
        refine y_iload_n 44 Y dX6_plus_44 rfl ?_
        refine y_if 45 159 Y dX6_plus_45 rfl rfl (fun c => ?_) (fun c => ?_)
        · replace h := h.1 c
          refine y_aload_n 159 Y dX6_plus_159 rfl ?_
          refine y_geta 160 Y 2 dX6_plus_160 rfl rfl ?_
          refine y_iload_n 163 Y dX6_plus_163 rfl ?_
          refine y_iload 164 Y dX6_plus_164 rfl ?_
          obtain ⟨o37, h⟩ := h
          obtain ⟨o38, h⟩ := h
          refine y_iast 166 Y dX6_plus_166 rfl rfl o37 o38 ?_
          exact y_ret 167 Y dX6_plus_167 rfl h
        · replace h := h.2 c
          refine y_iload_n 48 Y dX6_plus_48 rfl ?_
          refine y_iload 49 Y dX6_plus_49 rfl ?_
          refine y_aload_n 51 Y dX6_plus_51 rfl ?_
          refine y_geta 52 Y 2 dX6_plus_52 rfl rfl ?_
          refine y_iload_n 55 Y dX6_plus_55 rfl ?_
          obtain ⟨o39, h⟩ := h
          obtain ⟨o40, h⟩ := h
          refine y_iald 56 Y dX6_plus_56 rfl rfl o39 o40 (fun _ => ?_)
          refine y_icmp 57 76 Y dX6_plus_57 rfl rfl (fun c => ?_) (fun c => ?_)
          · replace h := h.1 c
            refine y_iconst 76 Y dX6_plus_76 rfl ?_
            obtain ⟨o41, h⟩ := h
            refine y_iadd 77 Y dX6_plus_77 o41 ?_
            refine y_iload 78 Y dX6_plus_78 rfl ?_
            refine y_aload_n 80 Y dX6_plus_80 rfl ?_
            refine y_geta 81 Y 2 dX6_plus_81 rfl rfl ?_
            refine y_iload_n 84 Y dX6_plus_84 rfl ?_
            obtain ⟨o42, h⟩ := h
            obtain ⟨o43, h⟩ := h
            refine y_iald 85 Y dX6_plus_85 rfl rfl o42 o43 (fun _ => ?_)
            refine y_icmp 86 105 Y dX6_plus_86 rfl rfl (fun c => ?_) (fun c => ?_)
            · replace h := h.1 c
              refine y_iconst 105 Y dX6_plus_105 rfl ?_
              obtain ⟨o44, h⟩ := h
              refine y_iadd 106 Y dX6_plus_106 o44 ?_
              refine y_istore 107 Y [some mt, some (mi l1), some (mi l2), some (mi l3), some (mi l4), some (mi l5), some (mi ((l3 + 0) + 0))] dX6_plus_107 rfl rfl ?_
              refine y_aload_n 109 Y dX6_plus_109 rfl ?_
              refine y_geta 110 Y 1 dX6_plus_110 rfl rfl ?_
              refine y_sipush 113 Y dX6_plus_113 rfl ?_
              refine y_iload_n 116 Y dX6_plus_116 rfl ?_
              obtain ⟨o45, h⟩ := h
              refine y_imul 117 Y dX6_plus_117 o45 ?_
              refine y_iload 118 Y dX6_plus_118 rfl ?_
              obtain ⟨o46, h⟩ := h
              refine y_iadd 120 Y dX6_plus_120 o46 ?_
              refine y_iload 121 Y dX6_plus_121 rfl ?_
              refine y_ldc 123 Y dX6_plus_123 rfl ?_
              refine y_iand 125 Y dX6_plus_125 mm_65535 ?_
              obtain ⟨o47, h⟩ := h
              obtain ⟨o48, h⟩ := h
              refine y_iast 126 Y dX6_plus_126 rfl rfl o47 o48 ?_
              refine y_iload 127 Y dX6_plus_127 rfl ?_
              refine y_bipush 129 Y dX6_plus_129 rfl ?_
              refine y_ishr 131 Y 65536 rfl dX6_plus_131 (by decide) (by decide) ?_
              refine y_istore_n 132 Y [some mt, some (mi l1), some (mi l2), some (mi (((l3 + 0) + 0) / 65536)), some (mi l4), some (mi l5), some (mi ((l3 + 0) + 0))] dX6_plus_132 rfl rfl ?_
              refine y_iload 133 Y dX6_plus_133 rfl ?_
              refine y_iconst 135 Y dX6_plus_135 rfl ?_
              obtain ⟨o49, h⟩ := h
              refine y_iadd 136 Y dX6_plus_136 o49 ?_
              refine y_iload 137 Y dX6_plus_137 rfl ?_
              refine y_icmp 139 149 Y dX6_plus_139 rfl rfl (fun c => ?_) (fun c => ?_)
              · replace h := h.1 c
                refine y_iload 149 Y dX6_plus_149 rfl ?_
                refine y_istore 151 Y [some mt, some (mi l1), some (mi l2), some (mi (((l3 + 0) + 0) / 65536)), some (mi l4), some (mi l5), some (mi ((l3 + 0) + 0))] dX6_plus_151 rfl rfl ?_
                refine y_iinc 153 Y [some mt, some (mi l1), some (mi l2), some (mi (((l3 + 0) + 0) / 65536)), some (mi l4), some (mi (l5 + 1)), some (mi ((l3 + 0) + 0))] dX6_plus_153 rfl rfl o49 ?_
                refine y_goto 156 37 Y dX6_plus_156 rfl rfl ?_
                obtain ⟨n1, hn, h⟩ := h
                exact Wk 37 _ [some mt, some (mi l1), some (mi l2), some (mi (((l3 + 0) + 0) / 65536)), some (mi l4), some (mi (l5 + 1)), none] _ _ ⟨rfl, ⟨rfl, ⟨rfl, ⟨rfl, ⟨rfl, ⟨rfl, trivial⟩⟩⟩⟩⟩⟩ (hIc n1 _ _ _ _ hn ((⟨rfl, _, _, _, _, _, rfl, rfl, h⟩)))
              · replace h := h.2 c
                refine y_iload 142 Y dX6_plus_142 rfl ?_
                refine y_iconst 144 Y dX6_plus_144 rfl ?_
                refine y_iadd 145 Y dX6_plus_145 o49 ?_
                refine y_goto 146 151 Y dX6_plus_146 rfl rfl ?_
                refine y_istore 151 Y [some mt, some (mi l1), some (mi l2), some (mi (((l3 + 0) + 0) / 65536)), some (mi (l5 + 1)), some (mi l5), some (mi ((l3 + 0) + 0))] dX6_plus_151 rfl rfl ?_
                refine y_iinc 153 Y [some mt, some (mi l1), some (mi l2), some (mi (((l3 + 0) + 0) / 65536)), some (mi (l5 + 1)), some (mi (l5 + 1)), some (mi ((l3 + 0) + 0))] dX6_plus_153 rfl rfl o49 ?_
                refine y_goto 156 37 Y dX6_plus_156 rfl rfl ?_
                obtain ⟨n1, hn, h⟩ := h
                exact Wk 37 _ [some mt, some (mi l1), some (mi l2), some (mi (((l3 + 0) + 0) / 65536)), some (mi (l5 + 1)), some (mi (l5 + 1)), none] _ _ ⟨rfl, ⟨rfl, ⟨rfl, ⟨rfl, ⟨rfl, ⟨rfl, trivial⟩⟩⟩⟩⟩⟩ (hIc n1 _ _ _ _ hn ((⟨rfl, _, _, _, _, _, rfl, rfl, h⟩)))
            · replace h := h.2 c
              refine y_aload_n 89 Y dX6_plus_89 rfl ?_
              refine y_geta 90 Y 1 dX6_plus_90 rfl rfl ?_
              refine y_sipush 93 Y dX6_plus_93 rfl ?_
              refine y_iload_n 96 Y dX6_plus_96 rfl ?_
              obtain ⟨o50, h⟩ := h
              refine y_imul 97 Y dX6_plus_97 o50 ?_
              refine y_iload 98 Y dX6_plus_98 rfl ?_
              obtain ⟨o51, h⟩ := h
              refine y_iadd 100 Y dX6_plus_100 o51 ?_
              obtain ⟨o52, h⟩ := h
              obtain ⟨o53, h⟩ := h
              refine y_iald 101 Y dX6_plus_101 rfl rfl o52 o53 (fun _ => ?_)
              refine y_goto 102 106 Y dX6_plus_102 rfl rfl ?_
              obtain ⟨o54, h⟩ := h
              refine y_iadd 106 Y dX6_plus_106 o54 ?_
              refine y_istore 107 Y [some mt, some (mi l1), some (mi l2), some (mi l3), some (mi l4), some (mi l5), some (mi ((l3 + 0) + (T 1 ((440 * l2) + l5))))] dX6_plus_107 rfl rfl ?_
              refine y_aload_n 109 Y dX6_plus_109 rfl ?_
              refine y_geta 110 Y 1 dX6_plus_110 rfl rfl ?_
              refine y_sipush 113 Y dX6_plus_113 rfl ?_
              refine y_iload_n 116 Y dX6_plus_116 rfl ?_
              obtain ⟨o55, h⟩ := h
              refine y_imul 117 Y dX6_plus_117 o55 ?_
              refine y_iload 118 Y dX6_plus_118 rfl ?_
              obtain ⟨o56, h⟩ := h
              refine y_iadd 120 Y dX6_plus_120 o56 ?_
              refine y_iload 121 Y dX6_plus_121 rfl ?_
              refine y_ldc 123 Y dX6_plus_123 rfl ?_
              refine y_iand 125 Y dX6_plus_125 mm_65535 ?_
              obtain ⟨o57, h⟩ := h
              obtain ⟨o58, h⟩ := h
              refine y_iast 126 Y dX6_plus_126 rfl rfl o57 o58 ?_
              refine y_iload 127 Y dX6_plus_127 rfl ?_
              refine y_bipush 129 Y dX6_plus_129 rfl ?_
              refine y_ishr 131 Y 65536 rfl dX6_plus_131 (by decide) (by decide) ?_
              refine y_istore_n 132 Y [some mt, some (mi l1), some (mi l2), some (mi (((l3 + 0) + (T 1 ((440 * l2) + l5))) / 65536)), some (mi l4), some (mi l5), some (mi ((l3 + 0) + (T 1 ((440 * l2) + l5))))] dX6_plus_132 rfl rfl ?_
              refine y_iload 133 Y dX6_plus_133 rfl ?_
              refine y_iconst 135 Y dX6_plus_135 rfl ?_
              obtain ⟨o59, h⟩ := h
              refine y_iadd 136 Y dX6_plus_136 o59 ?_
              refine y_iload 137 Y dX6_plus_137 rfl ?_
              refine y_icmp 139 149 Y dX6_plus_139 rfl rfl (fun c => ?_) (fun c => ?_)
              · replace h := h.1 c
                refine y_iload 149 Y dX6_plus_149 rfl ?_
                refine y_istore 151 Y [some mt, some (mi l1), some (mi l2), some (mi (((l3 + 0) + (T 1 ((440 * l2) + l5))) / 65536)), some (mi l4), some (mi l5), some (mi ((l3 + 0) + (T 1 ((440 * l2) + l5))))] dX6_plus_151 rfl rfl ?_
                refine y_iinc 153 Y [some mt, some (mi l1), some (mi l2), some (mi (((l3 + 0) + (T 1 ((440 * l2) + l5))) / 65536)), some (mi l4), some (mi (l5 + 1)), some (mi ((l3 + 0) + (T 1 ((440 * l2) + l5))))] dX6_plus_153 rfl rfl o59 ?_
                refine y_goto 156 37 Y dX6_plus_156 rfl rfl ?_
                obtain ⟨n1, hn, h⟩ := h
                exact Wk 37 _ [some mt, some (mi l1), some (mi l2), some (mi (((l3 + 0) + (T 1 ((440 * l2) + l5))) / 65536)), some (mi l4), some (mi (l5 + 1)), none] _ _ ⟨rfl, ⟨rfl, ⟨rfl, ⟨rfl, ⟨rfl, ⟨rfl, trivial⟩⟩⟩⟩⟩⟩ (hIc n1 _ _ _ _ hn ((⟨rfl, _, _, _, _, _, rfl, rfl, h⟩)))
              · replace h := h.2 c
                refine y_iload 142 Y dX6_plus_142 rfl ?_
                refine y_iconst 144 Y dX6_plus_144 rfl ?_
                refine y_iadd 145 Y dX6_plus_145 o59 ?_
                refine y_goto 146 151 Y dX6_plus_146 rfl rfl ?_
                refine y_istore 151 Y [some mt, some (mi l1), some (mi l2), some (mi (((l3 + 0) + (T 1 ((440 * l2) + l5))) / 65536)), some (mi (l5 + 1)), some (mi l5), some (mi ((l3 + 0) + (T 1 ((440 * l2) + l5))))] dX6_plus_151 rfl rfl ?_
                refine y_iinc 153 Y [some mt, some (mi l1), some (mi l2), some (mi (((l3 + 0) + (T 1 ((440 * l2) + l5))) / 65536)), some (mi (l5 + 1)), some (mi (l5 + 1)), some (mi ((l3 + 0) + (T 1 ((440 * l2) + l5))))] dX6_plus_153 rfl rfl o59 ?_
                refine y_goto 156 37 Y dX6_plus_156 rfl rfl ?_
                obtain ⟨n1, hn, h⟩ := h
                exact Wk 37 _ [some mt, some (mi l1), some (mi l2), some (mi (((l3 + 0) + (T 1 ((440 * l2) + l5))) / 65536)), some (mi (l5 + 1)), some (mi (l5 + 1)), none] _ _ ⟨rfl, ⟨rfl, ⟨rfl, ⟨rfl, ⟨rfl, ⟨rfl, trivial⟩⟩⟩⟩⟩⟩ (hIc n1 _ _ _ _ hn ((⟨rfl, _, _, _, _, _, rfl, rfl, h⟩)))
          · replace h := h.2 c
            refine y_aload_n 60 Y dX6_plus_60 rfl ?_
            refine y_geta 61 Y 1 dX6_plus_61 rfl rfl ?_
            refine y_sipush 64 Y dX6_plus_64 rfl ?_
            refine y_iload_n 67 Y dX6_plus_67 rfl ?_
            obtain ⟨o60, h⟩ := h
            refine y_imul 68 Y dX6_plus_68 o60 ?_
            refine y_iload 69 Y dX6_plus_69 rfl ?_
            obtain ⟨o61, h⟩ := h
            refine y_iadd 71 Y dX6_plus_71 o61 ?_
            obtain ⟨o62, h⟩ := h
            obtain ⟨o63, h⟩ := h
            refine y_iald 72 Y dX6_plus_72 rfl rfl o62 o63 (fun _ => ?_)
            refine y_goto 73 77 Y dX6_plus_73 rfl rfl ?_
            obtain ⟨o64, h⟩ := h
            refine y_iadd 77 Y dX6_plus_77 o64 ?_
            refine y_iload 78 Y dX6_plus_78 rfl ?_
            refine y_aload_n 80 Y dX6_plus_80 rfl ?_
            refine y_geta 81 Y 2 dX6_plus_81 rfl rfl ?_
            refine y_iload_n 84 Y dX6_plus_84 rfl ?_
            obtain ⟨o65, h⟩ := h
            obtain ⟨o66, h⟩ := h
            refine y_iald 85 Y dX6_plus_85 rfl rfl o65 o66 (fun _ => ?_)
            refine y_icmp 86 105 Y dX6_plus_86 rfl rfl (fun c => ?_) (fun c => ?_)
            · replace h := h.1 c
              refine y_iconst 105 Y dX6_plus_105 rfl ?_
              obtain ⟨o67, h⟩ := h
              refine y_iadd 106 Y dX6_plus_106 o67 ?_
              refine y_istore 107 Y [some mt, some (mi l1), some (mi l2), some (mi l3), some (mi l4), some (mi l5), some (mi ((l3 + (T 1 ((440 * l1) + l5))) + 0))] dX6_plus_107 rfl rfl ?_
              refine y_aload_n 109 Y dX6_plus_109 rfl ?_
              refine y_geta 110 Y 1 dX6_plus_110 rfl rfl ?_
              refine y_sipush 113 Y dX6_plus_113 rfl ?_
              refine y_iload_n 116 Y dX6_plus_116 rfl ?_
              refine y_imul 117 Y dX6_plus_117 o60 ?_
              refine y_iload 118 Y dX6_plus_118 rfl ?_
              refine y_iadd 120 Y dX6_plus_120 o61 ?_
              refine y_iload 121 Y dX6_plus_121 rfl ?_
              refine y_ldc 123 Y dX6_plus_123 rfl ?_
              refine y_iand 125 Y dX6_plus_125 mm_65535 ?_
              refine y_iast 126 Y dX6_plus_126 rfl rfl o62 o63 ?_
              refine y_iload 127 Y dX6_plus_127 rfl ?_
              refine y_bipush 129 Y dX6_plus_129 rfl ?_
              refine y_ishr 131 Y 65536 rfl dX6_plus_131 (by decide) (by decide) ?_
              refine y_istore_n 132 Y [some mt, some (mi l1), some (mi l2), some (mi (((l3 + (T 1 ((440 * l1) + l5))) + 0) / 65536)), some (mi l4), some (mi l5), some (mi ((l3 + (T 1 ((440 * l1) + l5))) + 0))] dX6_plus_132 rfl rfl ?_
              refine y_iload 133 Y dX6_plus_133 rfl ?_
              refine y_iconst 135 Y dX6_plus_135 rfl ?_
              obtain ⟨o68, h⟩ := h
              refine y_iadd 136 Y dX6_plus_136 o68 ?_
              refine y_iload 137 Y dX6_plus_137 rfl ?_
              refine y_icmp 139 149 Y dX6_plus_139 rfl rfl (fun c => ?_) (fun c => ?_)
              · replace h := h.1 c
                refine y_iload 149 Y dX6_plus_149 rfl ?_
                refine y_istore 151 Y [some mt, some (mi l1), some (mi l2), some (mi (((l3 + (T 1 ((440 * l1) + l5))) + 0) / 65536)), some (mi l4), some (mi l5), some (mi ((l3 + (T 1 ((440 * l1) + l5))) + 0))] dX6_plus_151 rfl rfl ?_
                refine y_iinc 153 Y [some mt, some (mi l1), some (mi l2), some (mi (((l3 + (T 1 ((440 * l1) + l5))) + 0) / 65536)), some (mi l4), some (mi (l5 + 1)), some (mi ((l3 + (T 1 ((440 * l1) + l5))) + 0))] dX6_plus_153 rfl rfl o68 ?_
                refine y_goto 156 37 Y dX6_plus_156 rfl rfl ?_
                obtain ⟨n1, hn, h⟩ := h
                exact Wk 37 _ [some mt, some (mi l1), some (mi l2), some (mi (((l3 + (T 1 ((440 * l1) + l5))) + 0) / 65536)), some (mi l4), some (mi (l5 + 1)), none] _ _ ⟨rfl, ⟨rfl, ⟨rfl, ⟨rfl, ⟨rfl, ⟨rfl, trivial⟩⟩⟩⟩⟩⟩ (hIc n1 _ _ _ _ hn ((⟨rfl, _, _, _, _, _, rfl, rfl, h⟩)))
              · replace h := h.2 c
                refine y_iload 142 Y dX6_plus_142 rfl ?_
                refine y_iconst 144 Y dX6_plus_144 rfl ?_
                refine y_iadd 145 Y dX6_plus_145 o68 ?_
                refine y_goto 146 151 Y dX6_plus_146 rfl rfl ?_
                refine y_istore 151 Y [some mt, some (mi l1), some (mi l2), some (mi (((l3 + (T 1 ((440 * l1) + l5))) + 0) / 65536)), some (mi (l5 + 1)), some (mi l5), some (mi ((l3 + (T 1 ((440 * l1) + l5))) + 0))] dX6_plus_151 rfl rfl ?_
                refine y_iinc 153 Y [some mt, some (mi l1), some (mi l2), some (mi (((l3 + (T 1 ((440 * l1) + l5))) + 0) / 65536)), some (mi (l5 + 1)), some (mi (l5 + 1)), some (mi ((l3 + (T 1 ((440 * l1) + l5))) + 0))] dX6_plus_153 rfl rfl o68 ?_
                refine y_goto 156 37 Y dX6_plus_156 rfl rfl ?_
                obtain ⟨n1, hn, h⟩ := h
                exact Wk 37 _ [some mt, some (mi l1), some (mi l2), some (mi (((l3 + (T 1 ((440 * l1) + l5))) + 0) / 65536)), some (mi (l5 + 1)), some (mi (l5 + 1)), none] _ _ ⟨rfl, ⟨rfl, ⟨rfl, ⟨rfl, ⟨rfl, ⟨rfl, trivial⟩⟩⟩⟩⟩⟩ (hIc n1 _ _ _ _ hn ((⟨rfl, _, _, _, _, _, rfl, rfl, h⟩)))
            · replace h := h.2 c
              refine y_aload_n 89 Y dX6_plus_89 rfl ?_
              refine y_geta 90 Y 1 dX6_plus_90 rfl rfl ?_
              refine y_sipush 93 Y dX6_plus_93 rfl ?_
              refine y_iload_n 96 Y dX6_plus_96 rfl ?_
              obtain ⟨o69, h⟩ := h
              refine y_imul 97 Y dX6_plus_97 o69 ?_
              refine y_iload 98 Y dX6_plus_98 rfl ?_
              obtain ⟨o70, h⟩ := h
              refine y_iadd 100 Y dX6_plus_100 o70 ?_
              obtain ⟨o71, h⟩ := h
              obtain ⟨o72, h⟩ := h
              refine y_iald 101 Y dX6_plus_101 rfl rfl o71 o72 (fun _ => ?_)
              refine y_goto 102 106 Y dX6_plus_102 rfl rfl ?_
              obtain ⟨o73, h⟩ := h
              refine y_iadd 106 Y dX6_plus_106 o73 ?_
              refine y_istore 107 Y [some mt, some (mi l1), some (mi l2), some (mi l3), some (mi l4), some (mi l5), some (mi ((l3 + (T 1 ((440 * l1) + l5))) + (T 1 ((440 * l2) + l5))))] dX6_plus_107 rfl rfl ?_
              refine y_aload_n 109 Y dX6_plus_109 rfl ?_
              refine y_geta 110 Y 1 dX6_plus_110 rfl rfl ?_
              refine y_sipush 113 Y dX6_plus_113 rfl ?_
              refine y_iload_n 116 Y dX6_plus_116 rfl ?_
              refine y_imul 117 Y dX6_plus_117 o60 ?_
              refine y_iload 118 Y dX6_plus_118 rfl ?_
              refine y_iadd 120 Y dX6_plus_120 o61 ?_
              refine y_iload 121 Y dX6_plus_121 rfl ?_
              refine y_ldc 123 Y dX6_plus_123 rfl ?_
              refine y_iand 125 Y dX6_plus_125 mm_65535 ?_
              refine y_iast 126 Y dX6_plus_126 rfl rfl o62 o63 ?_
              refine y_iload 127 Y dX6_plus_127 rfl ?_
              refine y_bipush 129 Y dX6_plus_129 rfl ?_
              refine y_ishr 131 Y 65536 rfl dX6_plus_131 (by decide) (by decide) ?_
              refine y_istore_n 132 Y [some mt, some (mi l1), some (mi l2), some (mi (((l3 + (T 1 ((440 * l1) + l5))) + (T 1 ((440 * l2) + l5))) / 65536)), some (mi l4), some (mi l5), some (mi ((l3 + (T 1 ((440 * l1) + l5))) + (T 1 ((440 * l2) + l5))))] dX6_plus_132 rfl rfl ?_
              refine y_iload 133 Y dX6_plus_133 rfl ?_
              refine y_iconst 135 Y dX6_plus_135 rfl ?_
              obtain ⟨o74, h⟩ := h
              refine y_iadd 136 Y dX6_plus_136 o74 ?_
              refine y_iload 137 Y dX6_plus_137 rfl ?_
              refine y_icmp 139 149 Y dX6_plus_139 rfl rfl (fun c => ?_) (fun c => ?_)
              · replace h := h.1 c
                refine y_iload 149 Y dX6_plus_149 rfl ?_
                refine y_istore 151 Y [some mt, some (mi l1), some (mi l2), some (mi (((l3 + (T 1 ((440 * l1) + l5))) + (T 1 ((440 * l2) + l5))) / 65536)), some (mi l4), some (mi l5), some (mi ((l3 + (T 1 ((440 * l1) + l5))) + (T 1 ((440 * l2) + l5))))] dX6_plus_151 rfl rfl ?_
                refine y_iinc 153 Y [some mt, some (mi l1), some (mi l2), some (mi (((l3 + (T 1 ((440 * l1) + l5))) + (T 1 ((440 * l2) + l5))) / 65536)), some (mi l4), some (mi (l5 + 1)), some (mi ((l3 + (T 1 ((440 * l1) + l5))) + (T 1 ((440 * l2) + l5))))] dX6_plus_153 rfl rfl o74 ?_
                refine y_goto 156 37 Y dX6_plus_156 rfl rfl ?_
                obtain ⟨n1, hn, h⟩ := h
                exact Wk 37 _ [some mt, some (mi l1), some (mi l2), some (mi (((l3 + (T 1 ((440 * l1) + l5))) + (T 1 ((440 * l2) + l5))) / 65536)), some (mi l4), some (mi (l5 + 1)), none] _ _ ⟨rfl, ⟨rfl, ⟨rfl, ⟨rfl, ⟨rfl, ⟨rfl, trivial⟩⟩⟩⟩⟩⟩ (hIc n1 _ _ _ _ hn ((⟨rfl, _, _, _, _, _, rfl, rfl, h⟩)))
              · replace h := h.2 c
                refine y_iload 142 Y dX6_plus_142 rfl ?_
                refine y_iconst 144 Y dX6_plus_144 rfl ?_
                refine y_iadd 145 Y dX6_plus_145 o74 ?_
                refine y_goto 146 151 Y dX6_plus_146 rfl rfl ?_
                refine y_istore 151 Y [some mt, some (mi l1), some (mi l2), some (mi (((l3 + (T 1 ((440 * l1) + l5))) + (T 1 ((440 * l2) + l5))) / 65536)), some (mi (l5 + 1)), some (mi l5), some (mi ((l3 + (T 1 ((440 * l1) + l5))) + (T 1 ((440 * l2) + l5))))] dX6_plus_151 rfl rfl ?_
                refine y_iinc 153 Y [some mt, some (mi l1), some (mi l2), some (mi (((l3 + (T 1 ((440 * l1) + l5))) + (T 1 ((440 * l2) + l5))) / 65536)), some (mi (l5 + 1)), some (mi (l5 + 1)), some (mi ((l3 + (T 1 ((440 * l1) + l5))) + (T 1 ((440 * l2) + l5))))] dX6_plus_153 rfl rfl o74 ?_
                refine y_goto 156 37 Y dX6_plus_156 rfl rfl ?_
                obtain ⟨n1, hn, h⟩ := h
                exact Wk 37 _ [some mt, some (mi l1), some (mi l2), some (mi (((l3 + (T 1 ((440 * l1) + l5))) + (T 1 ((440 * l2) + l5))) / 65536)), some (mi (l5 + 1)), some (mi (l5 + 1)), none] _ _ ⟨rfl, ⟨rfl, ⟨rfl, ⟨rfl, ⟨rfl, ⟨rfl, trivial⟩⟩⟩⟩⟩⟩ (hIc n1 _ _ _ _ hn ((⟨rfl, _, _, _, _, _, rfl, rfl, h⟩)))
set_option maxHeartbeats 4000000 in
theorem of_prints {g : mG} {S : mS} {a1 : Int} {Qp : Option mV → mS → Prop}
    (hE : mI S → (-2147483648 ≤ a1 ∧ a1 ≤ 2147483647) → (0 ≤ (S 42 0)) ∧ ((S 42 0) < 2000) ∧ (-2147483648 ≤ (((S 42 0) + 1) : Int) ∧ ((S 42 0) + 1) ≤ 2147483647) ∧ Qp none (mup (mup S 41 (S 42 0) a1) 42 0 ((S 42 0) + 1)))
    : CX_prints g [mt, mi a1] S Qp := by
  refine cm_y ⟨by decide, rfl⟩ (by simp [mcat]) (by simp) (fun _ _ _ _ _ => False) ?_ ?_
  · intro ha hS P Y Wk hIc
    have h := hE hS (mokI (ha (mi a1) (by simp)))
    clear hE ha
    refine y_aload_n 0 Y dX6_prints_0 rfl ?_
    refine y_geta 1 Y 41 dX6_prints_1 rfl rfl ?_
    refine y_aload_n 4 Y dX6_prints_4 rfl ?_
    refine y_getf 5 Y 42 dX6_prints_5 rfl rfl (fun _ => ?_)
    refine y_iload_n 8 Y dX6_prints_8 rfl ?_
    obtain ⟨o1, h⟩ := h
    obtain ⟨o2, h⟩ := h
    refine y_iast 9 Y dX6_prints_9 rfl rfl o1 o2 ?_
    refine y_aload_n 10 Y dX6_prints_10 rfl ?_
    refine y_dup 11 Y dX6_prints_11 rfl ?_
    refine y_getf 12 Y 42 dX6_prints_12 rfl rfl (fun _ => ?_)
    refine y_iconst 15 Y dX6_prints_15 rfl ?_
    obtain ⟨o3, h⟩ := h
    refine y_iadd 16 Y dX6_prints_16 o3 ?_
    refine y_putf 17 Y 42 dX6_prints_17 rfl rfl (fun q => absurd q (by decide)) ?_
    exact y_ret 20 Y dX6_prints_20 rfl h
  · intro n pc L st T hi
    exact hi.elim
set_option maxHeartbeats 4000000 in
theorem of_refused {g : mG} {S : mS} {a1 a2 a3 : Int} {Qp : Option mV → mS → Prop}
    (hE : mI S → (-2147483648 ≤ a1 ∧ a1 ≤ 2147483647) → (-2147483648 ≤ a2 ∧ a2 ≤ 2147483647) → (-2147483648 ≤ a3 ∧ a3 ≤ 2147483647) → ((a1 = 0) → ((a2 = 0) → ((a3 = 0) → (-2147483648 ≤ ((mup S 0 0 0) 0 0) ∧ ((mup S 0 0 0) 0 0) ≤ 2147483647 → ((((mup S 0 0 0) 0 0) = 0) → Qp (some (mi 0)) (mup S 0 0 0)) ∧ (¬ (((mup S 0 0 0) 0 0) = 0) → Qp (some (mi 1)) (mup S 0 0 0)))) ∧ (¬ (a3 = 0) → (-2147483648 ≤ ((mup S 0 0 3) 0 0) ∧ ((mup S 0 0 3) 0 0) ≤ 2147483647 → ((((mup S 0 0 3) 0 0) = 0) → Qp (some (mi 0)) (mup S 0 0 3)) ∧ (¬ (((mup S 0 0 3) 0 0) = 0) → Qp (some (mi 1)) (mup S 0 0 3))))) ∧ (¬ (a2 = 0) → (-2147483648 ≤ ((mup S 0 0 2) 0 0) ∧ ((mup S 0 0 2) 0 0) ≤ 2147483647 → ((((mup S 0 0 2) 0 0) = 0) → Qp (some (mi 0)) (mup S 0 0 2)) ∧ (¬ (((mup S 0 0 2) 0 0) = 0) → Qp (some (mi 1)) (mup S 0 0 2))))) ∧ (¬ (a1 = 0) → (-2147483648 ≤ ((mup S 0 0 1) 0 0) ∧ ((mup S 0 0 1) 0 0) ≤ 2147483647 → ((((mup S 0 0 1) 0 0) = 0) → Qp (some (mi 0)) (mup S 0 0 1)) ∧ (¬ (((mup S 0 0 1) 0 0) = 0) → Qp (some (mi 1)) (mup S 0 0 1)))))
    : CX_refused g [mt, mi a1, mi a2, mi a3] S Qp := by
  refine cm_y ⟨by decide, rfl⟩ (by simp [mcat]) (by simp) (fun _ _ _ _ _ => False) ?_ ?_
  · intro ha hS P Y Wk hIc
    have h := hE hS (mokI (ha (mi a1) (by simp))) (mokI (ha (mi a2) (by simp))) (mokI (ha (mi a3) (by simp)))
    clear hE ha
    refine y_aload_n 0 Y dX6_refused_0 rfl ?_
    refine y_iload_n 1 Y dX6_refused_1 rfl ?_
    refine y_if 2 9 Y dX6_refused_2 rfl rfl (fun c => ?_) (fun c => ?_)
    · replace h := h.1 c
      refine y_iload_n 9 Y dX6_refused_9 rfl ?_
      refine y_if 10 17 Y dX6_refused_10 rfl rfl (fun c => ?_) (fun c => ?_)
      · replace h := h.1 c
        refine y_iload_n 17 Y dX6_refused_17 rfl ?_
        refine y_if 18 25 Y dX6_refused_18 rfl rfl (fun c => ?_) (fun c => ?_)
        · replace h := h.1 c
          refine y_iconst 25 Y dX6_refused_25 rfl ?_
          refine y_putf 26 Y 0 dX6_refused_26 rfl rfl (fun q => absurd q (by decide)) ?_
          refine y_aload_n 29 Y dX6_refused_29 rfl ?_
          refine y_getf 30 Y 0 dX6_refused_30 rfl rfl (fun q => ?_)
          replace h := h q
          refine y_if 33 40 Y dX6_refused_33 rfl rfl (fun c => ?_) (fun c => ?_)
          · replace h := h.1 c
            refine y_iconst 40 Y dX6_refused_40 rfl ?_
            exact y_zret 41 Y dX6_refused_41 rfl (by decide) h
          · replace h := h.2 c
            refine y_iconst 36 Y dX6_refused_36 rfl ?_
            refine y_goto 37 41 Y dX6_refused_37 rfl rfl ?_
            exact y_zret 41 Y dX6_refused_41 rfl (by decide) h
        · replace h := h.2 c
          refine y_iconst 21 Y dX6_refused_21 rfl ?_
          refine y_goto 22 26 Y dX6_refused_22 rfl rfl ?_
          refine y_putf 26 Y 0 dX6_refused_26 rfl rfl (fun q => absurd q (by decide)) ?_
          refine y_aload_n 29 Y dX6_refused_29 rfl ?_
          refine y_getf 30 Y 0 dX6_refused_30 rfl rfl (fun q => ?_)
          replace h := h q
          refine y_if 33 40 Y dX6_refused_33 rfl rfl (fun c => ?_) (fun c => ?_)
          · replace h := h.1 c
            refine y_iconst 40 Y dX6_refused_40 rfl ?_
            exact y_zret 41 Y dX6_refused_41 rfl (by decide) h
          · replace h := h.2 c
            refine y_iconst 36 Y dX6_refused_36 rfl ?_
            refine y_goto 37 41 Y dX6_refused_37 rfl rfl ?_
            exact y_zret 41 Y dX6_refused_41 rfl (by decide) h
      · replace h := h.2 c
        refine y_iconst 13 Y dX6_refused_13 rfl ?_
        refine y_goto 14 26 Y dX6_refused_14 rfl rfl ?_
        refine y_putf 26 Y 0 dX6_refused_26 rfl rfl (fun q => absurd q (by decide)) ?_
        refine y_aload_n 29 Y dX6_refused_29 rfl ?_
        refine y_getf 30 Y 0 dX6_refused_30 rfl rfl (fun q => ?_)
        replace h := h q
        refine y_if 33 40 Y dX6_refused_33 rfl rfl (fun c => ?_) (fun c => ?_)
        · replace h := h.1 c
          refine y_iconst 40 Y dX6_refused_40 rfl ?_
          exact y_zret 41 Y dX6_refused_41 rfl (by decide) h
        · replace h := h.2 c
          refine y_iconst 36 Y dX6_refused_36 rfl ?_
          refine y_goto 37 41 Y dX6_refused_37 rfl rfl ?_
          exact y_zret 41 Y dX6_refused_41 rfl (by decide) h
    · replace h := h.2 c
      refine y_iconst 5 Y dX6_refused_5 rfl ?_
      refine y_goto 6 26 Y dX6_refused_6 rfl rfl ?_
      refine y_putf 26 Y 0 dX6_refused_26 rfl rfl (fun q => absurd q (by decide)) ?_
      refine y_aload_n 29 Y dX6_refused_29 rfl ?_
      refine y_getf 30 Y 0 dX6_refused_30 rfl rfl (fun q => ?_)
      replace h := h q
      refine y_if 33 40 Y dX6_refused_33 rfl rfl (fun c => ?_) (fun c => ?_)
      · replace h := h.1 c
        refine y_iconst 40 Y dX6_refused_40 rfl ?_
        exact y_zret 41 Y dX6_refused_41 rfl (by decide) h
      · replace h := h.2 c
        refine y_iconst 36 Y dX6_refused_36 rfl ?_
        refine y_goto 37 41 Y dX6_refused_37 rfl rfl ?_
        exact y_zret 41 Y dX6_refused_41 rfl (by decide) h
  · intro n pc L st T hi
    exact hi.elim
set_option maxHeartbeats 4000000 in
theorem of_setGone {g : mG} {S : mS} {a1 a2 : Int} {Qp : Option mV → mS → Prop}
    (hE : mI S → (-2147483648 ≤ a1 ∧ a1 ≤ 2147483647) → (-2147483648 ≤ a2 ∧ a2 ≤ 2147483647) → (0 ≤ a1) ∧ (a1 < 1000) ∧ (a2 = 0 ∨ a2 = 1) ∧ (0 ≤ (S 23 a1)) ∧ ((S 23 a1) < 1000) ∧ Qp none (mup (mup S 24 a1 a2) 24 (S 23 a1) a2))
    : CX_setGone g [mt, mi a1, mi a2] S Qp := by
  refine cm_y ⟨by decide, rfl⟩ (by simp [mcat]) (by simp) (fun _ _ _ _ _ => False) ?_ ?_
  · intro ha hS P Y Wk hIc
    have h := hE hS (mokI (ha (mi a1) (by simp))) (mokI (ha (mi a2) (by simp)))
    clear hE ha
    refine y_aload_n 0 Y dX6_setGone_0 rfl ?_
    refine y_geta 1 Y 24 dX6_setGone_1 rfl rfl ?_
    refine y_iload_n 4 Y dX6_setGone_4 rfl ?_
    refine y_iload_n 5 Y dX6_setGone_5 rfl ?_
    obtain ⟨o1, h⟩ := h
    obtain ⟨o2, h⟩ := h
    obtain ⟨o3, h⟩ := h
    refine y_bast 6 Y dX6_setGone_6 rfl rfl o1 o2 o3 ?_
    refine y_aload_n 7 Y dX6_setGone_7 rfl ?_
    refine y_geta 8 Y 24 dX6_setGone_8 rfl rfl ?_
    refine y_aload_n 11 Y dX6_setGone_11 rfl ?_
    refine y_geta 12 Y 23 dX6_setGone_12 rfl rfl ?_
    refine y_iload_n 15 Y dX6_setGone_15 rfl ?_
    refine y_iald 16 Y dX6_setGone_16 rfl rfl o1 o2 (fun _ => ?_)
    refine y_iload_n 17 Y dX6_setGone_17 rfl ?_
    obtain ⟨o4, h⟩ := h
    obtain ⟨o5, h⟩ := h
    refine y_bast 18 Y dX6_setGone_18 rfl rfl o4 o5 o3 ?_
    exact y_ret 19 Y dX6_setGone_19 rfl h
  · intro n pc L st T hi
    exact hi.elim
set_option maxHeartbeats 4000000 in
theorem of_shelf {g : mG} {S : mS} {a1 : Int} {Qp : Option mV → mS → Prop}
    (hE : mI S → (-2147483648 ≤ a1 ∧ a1 ≤ 2147483647) → (-2147483648 ≤ ((80 * a1) : Int) ∧ (80 * a1) ≤ 2147483647) ∧ Qp (some (mi (80 * a1))) S)
    : CX_shelf g [mi a1] S Qp := by
  refine cm_y ⟨by decide, rfl⟩ (by simp [mcat]) (by simp) (fun _ _ _ _ _ => False) ?_ ?_
  · intro ha hS P Y Wk hIc
    have h := hE hS (mokI (ha (mi a1) (by simp)))
    clear hE ha
    refine y_bipush 0 Y dX6_shelf_0 rfl ?_
    refine y_iload_n 2 Y dX6_shelf_2 rfl ?_
    obtain ⟨o1, h⟩ := h
    refine y_imul 3 Y dX6_shelf_3 o1 ?_
    exact y_iret 4 Y dX6_shelf_4 rfl h
  · intro n pc L st T hi
    exact hi.elim
set_option maxHeartbeats 4000000 in
theorem of_signOf {g : mG} {S : mS} {a1 : Int} {Qp : Option mV → mS → Prop}
    (hE : mI S → (-2147483648 ≤ a1 ∧ a1 ≤ 2147483647) → ((a1 = 33) → Qp (some (mi 6)) S) ∧ ((a1 ≠ 33) → ((a1 = 35) → Qp (some (mi 14)) S) ∧ ((a1 ≠ 35) → ((a1 = 37) → Qp (some (mi 4)) S) ∧ ((a1 ≠ 37) → ((a1 = 38) → Qp (some (mi 7)) S) ∧ ((a1 ≠ 38) → ((a1 = 42) → Qp (some (mi 2)) S) ∧ ((a1 ≠ 42) → ((a1 = 43) → Qp (some (mi 0)) S) ∧ ((a1 ≠ 43) → ((a1 = 45) → Qp (some (mi 1)) S) ∧ ((a1 ≠ 45) → ((a1 = 47) → Qp (some (mi 3)) S) ∧ ((a1 ≠ 47) → ((a1 = 60) → Qp (some (mi 9)) S) ∧ ((a1 ≠ 60) → ((a1 = 61) → Qp (some (mi 11)) S) ∧ ((a1 ≠ 61) → ((a1 = 62) → Qp (some (mi 10)) S) ∧ ((a1 ≠ 62) → ((a1 = 63) → Qp (some (mi 15)) S) ∧ ((a1 ≠ 63) → ((a1 = 64) → Qp (some (mi 13)) S) ∧ ((a1 ≠ 64) → ((a1 = 94) → Qp (some (mi 5)) S) ∧ ((a1 ≠ 94) → ((a1 = 124) → Qp (some (mi 8)) S) ∧ ((a1 ≠ 124) → ((a1 = 126) → Qp (some (mi 12)) S) ∧ ((a1 ≠ 126) → Qp (some (mi (-1))) S)))))))))))))))))
    : CX_signOf g [mi a1] S Qp := by
  refine cm_y ⟨by decide, rfl⟩ (by simp [mcat]) (by simp) (fun _ _ _ _ _ => False) ?_ ?_
  · intro ha hS P Y Wk hIc
    have h := hE hS (mokI (ha (mi a1) (by simp)))
    clear hE ha
    refine y_iload_n 0 Y dX6_signOf_0 rfl ?_
    refine y_lookup 1 Y dX6_signOf_1 rfl rfl ?_
    refine And.intro (fun c => ?_) (fun c => ?_)
    · replace h := h.1 c
      refine y_bipush 152 Y dX6_signOf_152 rfl ?_
      exact y_iret 154 Y dX6_signOf_154 rfl h
    · replace h := h.2 c
      refine And.intro (fun c => ?_) (fun c => ?_)
      · replace h := h.1 c
        refine y_bipush 176 Y dX6_signOf_176 rfl ?_
        exact y_iret 178 Y dX6_signOf_178 rfl h
      · replace h := h.2 c
        refine And.intro (fun c => ?_) (fun c => ?_)
        · replace h := h.1 c
          refine y_iconst 148 Y dX6_signOf_148 rfl ?_
          exact y_iret 149 Y dX6_signOf_149 rfl h
        · replace h := h.2 c
          refine And.intro (fun c => ?_) (fun c => ?_)
          · replace h := h.1 c
            refine y_bipush 155 Y dX6_signOf_155 rfl ?_
            exact y_iret 157 Y dX6_signOf_157 rfl h
          · replace h := h.2 c
            refine And.intro (fun c => ?_) (fun c => ?_)
            · replace h := h.1 c
              refine y_iconst 144 Y dX6_signOf_144 rfl ?_
              exact y_iret 145 Y dX6_signOf_145 rfl h
            · replace h := h.2 c
              refine And.intro (fun c => ?_) (fun c => ?_)
              · replace h := h.1 c
                refine y_iconst 140 Y dX6_signOf_140 rfl ?_
                exact y_iret 141 Y dX6_signOf_141 rfl h
              · replace h := h.2 c
                refine And.intro (fun c => ?_) (fun c => ?_)
                · replace h := h.1 c
                  refine y_iconst 142 Y dX6_signOf_142 rfl ?_
                  exact y_iret 143 Y dX6_signOf_143 rfl h
                · replace h := h.2 c
                  refine And.intro (fun c => ?_) (fun c => ?_)
                  · replace h := h.1 c
                    refine y_iconst 146 Y dX6_signOf_146 rfl ?_
                    exact y_iret 147 Y dX6_signOf_147 rfl h
                  · replace h := h.2 c
                    refine And.intro (fun c => ?_) (fun c => ?_)
                    · replace h := h.1 c
                      refine y_bipush 161 Y dX6_signOf_161 rfl ?_
                      exact y_iret 163 Y dX6_signOf_163 rfl h
                    · replace h := h.2 c
                      refine And.intro (fun c => ?_) (fun c => ?_)
                      · replace h := h.1 c
                        refine y_bipush 167 Y dX6_signOf_167 rfl ?_
                        exact y_iret 169 Y dX6_signOf_169 rfl h
                      · replace h := h.2 c
                        refine And.intro (fun c => ?_) (fun c => ?_)
                        · replace h := h.1 c
                          refine y_bipush 164 Y dX6_signOf_164 rfl ?_
                          exact y_iret 166 Y dX6_signOf_166 rfl h
                        · replace h := h.2 c
                          refine And.intro (fun c => ?_) (fun c => ?_)
                          · replace h := h.1 c
                            refine y_bipush 179 Y dX6_signOf_179 rfl ?_
                            exact y_iret 181 Y dX6_signOf_181 rfl h
                          · replace h := h.2 c
                            refine And.intro (fun c => ?_) (fun c => ?_)
                            · replace h := h.1 c
                              refine y_bipush 173 Y dX6_signOf_173 rfl ?_
                              exact y_iret 175 Y dX6_signOf_175 rfl h
                            · replace h := h.2 c
                              refine And.intro (fun c => ?_) (fun c => ?_)
                              · replace h := h.1 c
                                refine y_iconst 150 Y dX6_signOf_150 rfl ?_
                                exact y_iret 151 Y dX6_signOf_151 rfl h
                              · replace h := h.2 c
                                refine And.intro (fun c => ?_) (fun c => ?_)
                                · replace h := h.1 c
                                  refine y_bipush 158 Y dX6_signOf_158 rfl ?_
                                  exact y_iret 160 Y dX6_signOf_160 rfl h
                                · replace h := h.2 c
                                  refine And.intro (fun c => ?_) (fun c => ?_)
                                  · replace h := h.1 c
                                    refine y_bipush 170 Y dX6_signOf_170 rfl ?_
                                    exact y_iret 172 Y dX6_signOf_172 rfl h
                                  · replace h := h.2 c
                                    refine y_iconst 182 Y dX6_signOf_182 rfl ?_
                                    exact y_iret 183 Y dX6_signOf_183 rfl h
  · intro n pc L st T hi
    exact hi.elim
set_option maxHeartbeats 4000000 in
theorem of_sign_2 {g : mG} {S : mS} {a1 : Int} {Qp : Option mV → mS → Prop}
    (hE : mI S → (-2147483648 ≤ a1 ∧ a1 ≤ 2147483647) → (-2147483648 ≤ ((28 * a1) : Int) ∧ (28 * a1) ≤ 2147483647) ∧ (0 ≤ (28 * a1)) ∧ ((28 * a1) < 104160) ∧ Qp (some (mi (S 3 (28 * a1)))) S)
    : CX_sign_2 g [mt, mi a1] S Qp := by
  refine cm_y ⟨by decide, rfl⟩ (by simp [mcat]) (by simp) (fun _ _ _ _ _ => False) ?_ ?_
  · intro ha hS P Y Wk hIc
    have h := hE hS (mokI (ha (mi a1) (by simp)))
    clear hE ha
    refine y_aload_n 0 Y dX6_sign_2_0 rfl ?_
    refine y_geta 1 Y 3 dX6_sign_2_1 rfl rfl ?_
    refine y_bipush 4 Y dX6_sign_2_4 rfl ?_
    refine y_iload_n 6 Y dX6_sign_2_6 rfl ?_
    obtain ⟨o1, h⟩ := h
    refine y_imul 7 Y dX6_sign_2_7 o1 ?_
    obtain ⟨o2, h⟩ := h
    obtain ⟨o3, h⟩ := h
    refine y_iald 8 Y dX6_sign_2_8 rfl rfl o2 o3 (fun _ => ?_)
    exact y_iret 9 Y dX6_sign_2_9 rfl h
  · intro n pc L st T hi
    exact hi.elim
set_option maxHeartbeats 4000000 in
theorem of_span {g : mG} {S : mS} {a1 a2 : Int} {Qp : Option mV → mS → Prop} (I4 : Nat → Int → Int → mS → Prop) (I18 : Nat → Int → Int → Int → Int → mS → Prop)
    (hE : mI S → (-2147483648 ≤ a1 ∧ a1 ≤ 2147483647) → (-2147483648 ≤ a2 ∧ a2 ≤ 2147483647) → (-2147483648 ≤ ((a2 - 1) : Int) ∧ (a2 - 1) ≤ 2147483647) ∧ (∃ n1, I4 n1 a1 (a2 - 1) S))
    (h4 : ∀ (n : Nat) (l1 l3 : Int) (T : mS), mI T → (-2147483648 ≤ l1 ∧ l1 ≤ 2147483647) → (-2147483648 ≤ l3 ∧ l3 ≤ 2147483647) → I4 n l1 l3 T → ((l3 < 0) → Qp none T) ∧ (¬ (l3 < 0) → (-2147483648 ≤ ((l1 + l3) : Int) ∧ (l1 + l3) ≤ 2147483647) ∧ (-2147483648 ≤ (((l1 + l3) + 1) : Int) ∧ ((l1 + l3) + 1) ≤ 2147483647) ∧ (∃ n1, n1 < n ∧ I18 n1 l1 l3 ((l1 + l3) + 1) 0 T)))
    (h18 : ∀ (n : Nat) (l1 l3 l4 l5 : Int) (T : mS), mI T → (-2147483648 ≤ l1 ∧ l1 ≤ 2147483647) → (-2147483648 ≤ l3 ∧ l3 ≤ 2147483647) → (-2147483648 ≤ l4 ∧ l4 ≤ 2147483647) → (-2147483648 ≤ l5 ∧ l5 ≤ 2147483647) → I18 n l1 l3 l4 l5 T → (-2147483648 ≤ ((l1 + l3) : Int) ∧ (l1 + l3) ≤ 2147483647) ∧ (0 ≤ (l1 + l3)) ∧ ((l1 + l3) < 20300) ∧ (((T 7 (l1 + l3)) ≤ l5) → (-2147483648 ≤ ((l4 - l1) : Int) ∧ (l4 - l1) ≤ 2147483647) ∧ (-2147483648 ≤ (((l4 - l1) - l3) : Int) ∧ ((l4 - l1) - l3) ≤ 2147483647) ∧ (-2147483648 ≤ ((l3 + (-1)) : Int) ∧ (l3 + (-1)) ≤ 2147483647) ∧ (∃ n1, n1 < n ∧ I4 n1 l1 (l3 + (-1)) (mup T 8 (l1 + l3) ((l4 - l1) - l3)))) ∧ (¬ ((T 7 (l1 + l3)) ≤ l5) → (0 ≤ l4) ∧ (l4 < 20300) ∧ (-2147483648 ≤ ((l4 + (T 8 l4)) : Int) ∧ (l4 + (T 8 l4)) ≤ 2147483647) ∧ (-2147483648 ≤ ((l5 + 1) : Int) ∧ (l5 + 1) ≤ 2147483647) ∧ (∃ n1, n1 < n ∧ I18 n1 l1 l3 (l4 + (T 8 l4)) (l5 + 1) T)))
    : CX_span g [mt, mi a1, mi a2] S Qp := by
  refine cm_y ⟨by decide, rfl⟩ (by simp [mcat]) (by simp) (fun n pc L st S => (pc = 4 ∧ ∃ (l1 : Int) (l3 : Int), L = [some mt, some (mi l1), none, some (mi l3), none, none] ∧ st = [] ∧ I4 n l1 l3 S) ∨ (pc = 18 ∧ ∃ (l1 : Int) (l3 : Int) (l4 : Int) (l5 : Int), L = [some mt, some (mi l1), none, some (mi l3), some (mi l4), some (mi l5)] ∧ st = [] ∧ I18 n l1 l3 l4 l5 S)) ?_ ?_
  · intro ha hS P Y Wk hIc
    have h := hE hS (mokI (ha (mi a1) (by simp))) (mokI (ha (mi a2) (by simp)))
    clear hE ha h4 h18
    refine y_iload_n 0 Y dX6_span_0 rfl ?_
    refine y_iconst 1 Y dX6_span_1 rfl ?_
    obtain ⟨o1, h⟩ := h
    refine y_isub 2 Y dX6_span_2 o1 ?_
    refine y_istore_n 3 Y [some mt, some (mi a1), some (mi a2), some (mi (a2 - 1)), none, none] dX6_span_3 rfl rfl ?_
    obtain ⟨n1, h⟩ := h
    exact Wk 4 _ [some mt, some (mi a1), none, some (mi (a2 - 1)), none, none] _ _ ⟨rfl, ⟨rfl, ⟨rfl, trivial⟩⟩⟩ (hIc n1 _ _ _ _ (Or.inl (⟨rfl, _, _, rfl, rfl, h⟩)))
  · intro n pc L st T hi hS hL P Y Wk hIc
    clear hE
    rcases hi with ⟨rfl, l1, l3, rfl, rfl, hi⟩ | ⟨rfl, l1, l3, l4, l5, rfl, rfl, hi⟩
    · have h := h4 n l1 l3 T hS (hL 1 _ rfl) (hL 3 _ rfl) hi
      clear hL hi h4 h18
      refine y_iload_n 4 Y dX6_span_4 rfl ?_
      refine y_if 5 69 Y dX6_span_5 rfl rfl (fun c => ?_) (fun c => ?_)
      · replace h := h.1 c
        exact y_ret 69 Y dX6_span_69 rfl h
      · replace h := h.2 c
        refine y_iload_n 8 Y dX6_span_8 rfl ?_
        refine y_iload_n 9 Y dX6_span_9 rfl ?_
        obtain ⟨o1, h⟩ := h
        refine y_iadd 10 Y dX6_span_10 o1 ?_
        refine y_iconst 11 Y dX6_span_11 rfl ?_
        obtain ⟨o2, h⟩ := h
        refine y_iadd 12 Y dX6_span_12 o2 ?_
        refine y_istore 13 Y [some mt, some (mi l1), none, some (mi l3), some (mi ((l1 + l3) + 1)), none] dX6_span_13 rfl rfl ?_
        refine y_iconst 15 Y dX6_span_15 rfl ?_
        refine y_istore 16 Y [some mt, some (mi l1), none, some (mi l3), some (mi ((l1 + l3) + 1)), some (mi 0)] dX6_span_16 rfl rfl ?_
        obtain ⟨n1, hn, h⟩ := h
        exact Wk 18 _ [some mt, some (mi l1), none, some (mi l3), some (mi ((l1 + l3) + 1)), some (mi 0)] _ _ ⟨rfl, ⟨rfl, ⟨rfl, ⟨rfl, ⟨rfl, trivial⟩⟩⟩⟩⟩ (hIc n1 _ _ _ _ hn (Or.inr ((⟨rfl, _, _, _, _, rfl, rfl, h⟩))))
    · have h := h18 n l1 l3 l4 l5 T hS (hL 1 _ rfl) (hL 3 _ rfl) (hL 4 _ rfl) (hL 5 _ rfl) hi
      clear hL hi h4 h18
      refine y_iload 18 Y dX6_span_18 rfl ?_
      refine y_aload_n 20 Y dX6_span_20 rfl ?_
      refine y_geta 21 Y 7 dX6_span_21 rfl rfl ?_
      refine y_iload_n 24 Y dX6_span_24 rfl ?_
      refine y_iload_n 25 Y dX6_span_25 rfl ?_
      obtain ⟨o1, h⟩ := h
      refine y_iadd 26 Y dX6_span_26 o1 ?_
      obtain ⟨o2, h⟩ := h
      obtain ⟨o3, h⟩ := h
      refine y_iald 27 Y dX6_span_27 rfl rfl o2 o3 (fun _ => ?_)
      refine y_icmp 28 49 Y dX6_span_28 rfl rfl (fun c => ?_) (fun c => ?_)
      · replace h := h.1 c
        refine y_aload_n 49 Y dX6_span_49 rfl ?_
        refine y_geta 50 Y 8 dX6_span_50 rfl rfl ?_
        refine y_iload_n 53 Y dX6_span_53 rfl ?_
        refine y_iload_n 54 Y dX6_span_54 rfl ?_
        refine y_iadd 55 Y dX6_span_55 o1 ?_
        refine y_iload 56 Y dX6_span_56 rfl ?_
        refine y_iload_n 58 Y dX6_span_58 rfl ?_
        obtain ⟨o4, h⟩ := h
        refine y_isub 59 Y dX6_span_59 o4 ?_
        refine y_iload_n 60 Y dX6_span_60 rfl ?_
        obtain ⟨o5, h⟩ := h
        refine y_isub 61 Y dX6_span_61 o5 ?_
        refine y_iast 62 Y dX6_span_62 rfl rfl o2 o3 ?_
        obtain ⟨o6, h⟩ := h
        refine y_iinc 63 Y [some mt, some (mi l1), none, some (mi (l3 + (-1))), some (mi l4), some (mi l5)] dX6_span_63 rfl rfl o6 ?_
        refine y_goto 66 4 Y dX6_span_66 rfl rfl ?_
        obtain ⟨n1, hn, h⟩ := h
        exact Wk 4 _ [some mt, some (mi l1), none, some (mi (l3 + (-1))), none, none] _ _ ⟨rfl, ⟨rfl, ⟨rfl, trivial⟩⟩⟩ (hIc n1 _ _ _ _ hn (Or.inl (⟨rfl, _, _, rfl, rfl, h⟩)))
      · replace h := h.2 c
        refine y_iload 31 Y dX6_span_31 rfl ?_
        refine y_aload_n 33 Y dX6_span_33 rfl ?_
        refine y_geta 34 Y 8 dX6_span_34 rfl rfl ?_
        refine y_iload 37 Y dX6_span_37 rfl ?_
        obtain ⟨o7, h⟩ := h
        obtain ⟨o8, h⟩ := h
        refine y_iald 39 Y dX6_span_39 rfl rfl o7 o8 (fun _ => ?_)
        obtain ⟨o9, h⟩ := h
        refine y_iadd 40 Y dX6_span_40 o9 ?_
        refine y_istore 41 Y [some mt, some (mi l1), none, some (mi l3), some (mi (l4 + (T 8 l4))), some (mi l5)] dX6_span_41 rfl rfl ?_
        obtain ⟨o10, h⟩ := h
        refine y_iinc 43 Y [some mt, some (mi l1), none, some (mi l3), some (mi (l4 + (T 8 l4))), some (mi (l5 + 1))] dX6_span_43 rfl rfl o10 ?_
        refine y_goto 46 18 Y dX6_span_46 rfl rfl ?_
        obtain ⟨n1, hn, h⟩ := h
        exact Wk 18 _ [some mt, some (mi l1), none, some (mi l3), some (mi (l4 + (T 8 l4))), some (mi (l5 + 1))] _ _ ⟨rfl, ⟨rfl, ⟨rfl, ⟨rfl, ⟨rfl, trivial⟩⟩⟩⟩⟩ (hIc n1 _ _ _ _ hn (Or.inr ((⟨rfl, _, _, _, _, rfl, rfl, h⟩))))
set_option maxHeartbeats 4000000 in
theorem of_task {g : mG} {S : mS} {a1 a2 : Int} {Qp : Option mV → mS → Prop}
    (hE : mI S → (-2147483648 ≤ a1 ∧ a1 ≤ 2147483647) → (-2147483648 ≤ a2 ∧ a2 ≤ 2147483647) → (0 ≤ (S 45 0)) ∧ ((S 45 0) < 600) ∧ (-2147483648 ≤ (((S 45 0) + 1) : Int) ∧ ((S 45 0) + 1) ≤ 2147483647) ∧ Qp none (mup (mup (mup S 43 (S 45 0) a1) 44 (S 45 0) a2) 45 0 ((S 45 0) + 1)))
    : CX_task g [mt, mi a1, mi a2] S Qp := by
  refine cm_y ⟨by decide, rfl⟩ (by simp [mcat]) (by simp) (fun _ _ _ _ _ => False) ?_ ?_
  · intro ha hS P Y Wk hIc
    have h := hE hS (mokI (ha (mi a1) (by simp))) (mokI (ha (mi a2) (by simp)))
    clear hE ha
    refine y_aload_n 0 Y dX6_task_0 rfl ?_
    refine y_geta 1 Y 43 dX6_task_1 rfl rfl ?_
    refine y_aload_n 4 Y dX6_task_4 rfl ?_
    refine y_getf 5 Y 45 dX6_task_5 rfl rfl (fun _ => ?_)
    refine y_iload_n 8 Y dX6_task_8 rfl ?_
    obtain ⟨o1, h⟩ := h
    obtain ⟨o2, h⟩ := h
    refine y_iast 9 Y dX6_task_9 rfl rfl o1 o2 ?_
    refine y_aload_n 10 Y dX6_task_10 rfl ?_
    refine y_geta 11 Y 44 dX6_task_11 rfl rfl ?_
    refine y_aload_n 14 Y dX6_task_14 rfl ?_
    refine y_getf 15 Y 45 dX6_task_15 rfl rfl (fun _ => ?_)
    refine y_iload_n 18 Y dX6_task_18 rfl ?_
    refine y_iast 19 Y dX6_task_19 rfl rfl o1 o2 ?_
    refine y_aload_n 20 Y dX6_task_20 rfl ?_
    refine y_dup 21 Y dX6_task_21 rfl ?_
    refine y_getf 22 Y 45 dX6_task_22 rfl rfl (fun _ => ?_)
    refine y_iconst 25 Y dX6_task_25 rfl ?_
    obtain ⟨o3, h⟩ := h
    refine y_iadd 26 Y dX6_task_26 o3 ?_
    refine y_putf 27 Y 45 dX6_task_27 rfl rfl (fun q => absurd q (by decide)) ?_
    exact y_ret 30 Y dX6_task_30 rfl h
  · intro n pc L st T hi
    exact hi.elim
set_option maxHeartbeats 4000000 in
theorem of_thrown {g : mG} {S : mS}  {Qp : Option mV → mS → Prop}
    (hE : mI S → Qp (some (mi (S 0 0))) S)
    : CX_thrown g [mt] S Qp := by
  refine cm_y ⟨by decide, rfl⟩ (by simp [mcat]) (by simp) (fun _ _ _ _ _ => False) ?_ ?_
  · intro ha hS P Y Wk hIc
    have h := hE hS
    clear hE ha
    refine y_aload_n 0 Y dX6_thrown_0 rfl ?_
    refine y_getf 1 Y 0 dX6_thrown_1 rfl rfl (fun _ => ?_)
    exact y_iret 4 Y dX6_thrown_4 rfl h
  · intro n pc L st T hi
    exact hi.elim
set_option maxHeartbeats 4000000 in
theorem of_top {g : mG} {S : mS}  {Qp : Option mV → mS → Prop}
    (hE : mI S → (-2147483648 ≤ ((60 + (S 61 0)) : Int) ∧ (60 + (S 61 0)) ≤ 2147483647) ∧ (-2147483648 ≤ (((60 + (S 61 0)) - 1) : Int) ∧ ((60 + (S 61 0)) - 1) ≤ 2147483647) ∧ Qp (some (mi ((60 + (S 61 0)) - 1))) S)
    : CX_top g [mt] S Qp := by
  refine cm_y ⟨by decide, rfl⟩ (by simp [mcat]) (by simp) (fun _ _ _ _ _ => False) ?_ ?_
  · intro ha hS P Y Wk hIc
    have h := hE hS
    clear hE ha
    refine y_bipush 0 Y dX6_top_0 rfl ?_
    refine y_aload_n 2 Y dX6_top_2 rfl ?_
    refine y_getf 3 Y 61 dX6_top_3 rfl rfl (fun _ => ?_)
    obtain ⟨o1, h⟩ := h
    refine y_iadd 6 Y dX6_top_6 o1 ?_
    refine y_iconst 7 Y dX6_top_7 rfl ?_
    obtain ⟨o2, h⟩ := h
    refine y_isub 8 Y dX6_top_8 o2 ?_
    exact y_iret 9 Y dX6_top_9 rfl h
  · intro n pc L st T hi
    exact hi.elim
set_option maxHeartbeats 4000000 in
theorem of_trees {g : mG} {S : mS}  {Qp : Option mV → mS → Prop}
    (hE : mI S → Qp (some (mi (S 10 0))) (mup S 0 0 0))
    : CX_trees g [mt] S Qp := by
  refine cm_y ⟨by decide, rfl⟩ (by simp [mcat]) (by simp) (fun _ _ _ _ _ => False) ?_ ?_
  · intro ha hS P Y Wk hIc
    have h := hE hS
    clear hE ha
    refine y_aload_n 0 Y dX6_trees_0 rfl ?_
    refine y_iconst 1 Y dX6_trees_1 rfl ?_
    refine y_putf 2 Y 0 dX6_trees_2 rfl rfl (fun q => absurd q (by decide)) ?_
    refine y_aload_n 5 Y dX6_trees_5 rfl ?_
    refine y_getf 6 Y 10 dX6_trees_6 rfl rfl (fun _ => ?_)
    exact y_iret 9 Y dX6_trees_9 rfl h
  · intro n pc L st T hi
    exact hi.elim
set_option maxHeartbeats 4000000 in
theorem of_trim {g : mG} {S : mS} {a1 : Int} {Qp : Option mV → mS → Prop} (I0 : Nat → Int → mS → Prop)
    (hE : mI S → (-2147483648 ≤ a1 ∧ a1 ≤ 2147483647) → (∃ n1, I0 n1 a1 S))
    (h0 : ∀ (n : Nat) (l1 : Int) (T : mS), mI T → (-2147483648 ≤ l1 ∧ l1 ≤ 2147483647) → I0 n l1 T → (0 ≤ l1) ∧ (l1 < 16) ∧ (((T 2 l1) ≤ 0) → Qp none T) ∧ (¬ ((T 2 l1) ≤ 0) → (-2147483648 ≤ ((440 * l1) : Int) ∧ (440 * l1) ≤ 2147483647) ∧ (-2147483648 ≤ (((440 * l1) + (T 2 l1)) : Int) ∧ ((440 * l1) + (T 2 l1)) ≤ 2147483647) ∧ (-2147483648 ≤ ((((440 * l1) + (T 2 l1)) - 1) : Int) ∧ (((440 * l1) + (T 2 l1)) - 1) ≤ 2147483647) ∧ (0 ≤ (((440 * l1) + (T 2 l1)) - 1)) ∧ ((((440 * l1) + (T 2 l1)) - 1) < 7040) ∧ (((T 1 (((440 * l1) + (T 2 l1)) - 1)) ≠ 0) → Qp none T) ∧ (¬ ((T 1 (((440 * l1) + (T 2 l1)) - 1)) ≠ 0) → (-2147483648 ≤ (((T 2 l1) - 1) : Int) ∧ ((T 2 l1) - 1) ≤ 2147483647) ∧ (∃ n1, n1 < n ∧ I0 n1 l1 (mup T 2 l1 ((T 2 l1) - 1))))))
    : CX_trim g [mt, mi a1] S Qp := by
  refine cm_y ⟨by decide, rfl⟩ (by simp [mcat]) (by simp) (fun n pc L st S => (pc = 0 ∧ ∃ (l1 : Int), L = [some mt, some (mi l1)] ∧ st = [] ∧ I0 n l1 S)) ?_ ?_
  · intro ha hS P Y Wk hIc
    have h := hE hS (mokI (ha (mi a1) (by simp)))
    clear hE ha h0
    obtain ⟨n1, h⟩ := h
    exact Wk 0 _ [some mt, some (mi a1)] _ _ ⟨rfl, ⟨rfl, trivial⟩⟩ (hIc n1 _ _ _ _ ((⟨rfl, _, rfl, rfl, h⟩)))
  · intro n pc L st T hi hS hL P Y Wk hIc
    clear hE
    rcases hi with ⟨rfl, l1, rfl, rfl, hi⟩
    · have h := h0 n l1 T hS (hL 1 _ rfl) hi
      clear hL hi h0
      refine y_aload_n 0 Y dX6_trim_0 rfl ?_
      refine y_geta 1 Y 2 dX6_trim_1 rfl rfl ?_
      refine y_iload_n 4 Y dX6_trim_4 rfl ?_
      obtain ⟨o1, h⟩ := h
      obtain ⟨o2, h⟩ := h
      refine y_iald 5 Y dX6_trim_5 rfl rfl o1 o2 (fun _ => ?_)
      refine y_if 6 44 Y dX6_trim_6 rfl rfl (fun c => ?_) (fun c => ?_)
      · replace h := h.1 c
        exact y_ret 44 Y dX6_trim_44 rfl h
      · replace h := h.2 c
        refine y_aload_n 9 Y dX6_trim_9 rfl ?_
        refine y_geta 10 Y 1 dX6_trim_10 rfl rfl ?_
        refine y_sipush 13 Y dX6_trim_13 rfl ?_
        refine y_iload_n 16 Y dX6_trim_16 rfl ?_
        obtain ⟨o3, h⟩ := h
        refine y_imul 17 Y dX6_trim_17 o3 ?_
        refine y_aload_n 18 Y dX6_trim_18 rfl ?_
        refine y_geta 19 Y 2 dX6_trim_19 rfl rfl ?_
        refine y_iload_n 22 Y dX6_trim_22 rfl ?_
        refine y_iald 23 Y dX6_trim_23 rfl rfl o1 o2 (fun _ => ?_)
        obtain ⟨o4, h⟩ := h
        refine y_iadd 24 Y dX6_trim_24 o4 ?_
        refine y_iconst 25 Y dX6_trim_25 rfl ?_
        obtain ⟨o5, h⟩ := h
        refine y_isub 26 Y dX6_trim_26 o5 ?_
        obtain ⟨o6, h⟩ := h
        obtain ⟨o7, h⟩ := h
        refine y_iald 27 Y dX6_trim_27 rfl rfl o6 o7 (fun _ => ?_)
        refine y_if 28 44 Y dX6_trim_28 rfl rfl (fun c => ?_) (fun c => ?_)
        · replace h := h.1 c
          exact y_ret 44 Y dX6_trim_44 rfl h
        · replace h := h.2 c
          refine y_aload_n 31 Y dX6_trim_31 rfl ?_
          refine y_geta 32 Y 2 dX6_trim_32 rfl rfl ?_
          refine y_iload_n 35 Y dX6_trim_35 rfl ?_
          refine y_dup2 36 Y dX6_trim_36 rfl rfl ?_
          refine y_iald 37 Y dX6_trim_37 rfl rfl o1 o2 (fun _ => ?_)
          refine y_iconst 38 Y dX6_trim_38 rfl ?_
          obtain ⟨o8, h⟩ := h
          refine y_isub 39 Y dX6_trim_39 o8 ?_
          refine y_iast 40 Y dX6_trim_40 rfl rfl o1 o2 ?_
          refine y_goto 41 0 Y dX6_trim_41 rfl rfl ?_
          obtain ⟨n1, hn, h⟩ := h
          exact Wk 0 _ [some mt, some (mi l1)] _ _ ⟨rfl, ⟨rfl, trivial⟩⟩ (hIc n1 _ _ _ _ hn ((⟨rfl, _, rfl, rfl, h⟩)))
set_option maxHeartbeats 4000000 in
theorem of_twice {g : mG} {S : mS} {a1 a2 : Int} {Qp : Option mV → mS → Prop} (I5 : Nat → Int → Int → Int → mS → Prop)
    (hE : mI S → (-2147483648 ≤ a1 ∧ a1 ≤ 2147483647) → (-2147483648 ≤ a2 ∧ a2 ≤ 2147483647) → (∃ n1, I5 n1 a1 a2 0 S))
    (h5 : ∀ (n : Nat) (l1 l3 l4 : Int) (T : mS), mI T → (-2147483648 ≤ l1 ∧ l1 ≤ 2147483647) → (-2147483648 ≤ l3 ∧ l3 ≤ 2147483647) → (-2147483648 ≤ l4 ∧ l4 ≤ 2147483647) → I5 n l1 l3 l4 T → (0 ≤ l1) ∧ (l1 < 16) ∧ (((T 2 l1) ≤ l4) → ((l3 ≤ 0) → Qp none T) ∧ (¬ (l3 ≤ 0) → (-2147483648 ≤ ((440 * l1) : Int) ∧ (440 * l1) ≤ 2147483647) ∧ (-2147483648 ≤ (((440 * l1) + (T 2 l1)) : Int) ∧ ((440 * l1) + (T 2 l1)) ≤ 2147483647) ∧ (0 ≤ ((440 * l1) + (T 2 l1))) ∧ (((440 * l1) + (T 2 l1)) < 7040) ∧ (-2147483648 ≤ (((T 2 l1) + 1) : Int) ∧ ((T 2 l1) + 1) ≤ 2147483647) ∧ Qp none (mup (mup T 1 ((440 * l1) + (T 2 l1)) l3) 2 l1 ((T 2 l1) + 1)))) ∧ (¬ ((T 2 l1) ≤ l4) → (-2147483648 ≤ ((440 * l1) : Int) ∧ (440 * l1) ≤ 2147483647) ∧ (-2147483648 ≤ (((440 * l1) + l4) : Int) ∧ ((440 * l1) + l4) ≤ 2147483647) ∧ (0 ≤ ((440 * l1) + l4)) ∧ (((440 * l1) + l4) < 7040) ∧ (-2147483648 ≤ ((2 * (T 1 ((440 * l1) + l4))) : Int) ∧ (2 * (T 1 ((440 * l1) + l4))) ≤ 2147483647) ∧ (-2147483648 ≤ (((2 * (T 1 ((440 * l1) + l4))) + l3) : Int) ∧ ((2 * (T 1 ((440 * l1) + l4))) + l3) ≤ 2147483647) ∧ (-2147483648 ≤ ((l4 + 1) : Int) ∧ (l4 + 1) ≤ 2147483647) ∧ (∃ n1, n1 < n ∧ I5 n1 l1 (((2 * (T 1 ((440 * l1) + l4))) + l3) / 65536) (l4 + 1) (mup T 1 ((440 * l1) + l4) (((2 * (T 1 ((440 * l1) + l4))) + l3) % 65536)))))
    : CX_twice g [mt, mi a1, mi a2] S Qp := by
  refine cm_y ⟨by decide, rfl⟩ (by simp [mcat]) (by simp) (fun n pc L st S => (pc = 5 ∧ ∃ (l1 : Int) (l3 : Int) (l4 : Int), L = [some mt, some (mi l1), none, some (mi l3), some (mi l4), none] ∧ st = [] ∧ I5 n l1 l3 l4 S)) ?_ ?_
  · intro ha hS P Y Wk hIc
    have h := hE hS (mokI (ha (mi a1) (by simp))) (mokI (ha (mi a2) (by simp)))
    clear hE ha h5
    refine y_iload_n 0 Y dX6_twice_0 rfl ?_
    refine y_istore_n 1 Y [some mt, some (mi a1), some (mi a2), some (mi a2), none, none] dX6_twice_1 rfl rfl ?_
    refine y_iconst 2 Y dX6_twice_2 rfl ?_
    refine y_istore 3 Y [some mt, some (mi a1), some (mi a2), some (mi a2), some (mi 0), none] dX6_twice_3 rfl rfl ?_
    obtain ⟨n1, h⟩ := h
    exact Wk 5 _ [some mt, some (mi a1), none, some (mi a2), some (mi 0), none] _ _ ⟨rfl, ⟨rfl, ⟨rfl, ⟨rfl, trivial⟩⟩⟩⟩ (hIc n1 _ _ _ _ ((⟨rfl, _, _, _, rfl, rfl, h⟩)))
  · intro n pc L st T hi hS hL P Y Wk hIc
    clear hE
    rcases hi with ⟨rfl, l1, l3, l4, rfl, rfl, hi⟩
    · have h := h5 n l1 l3 l4 T hS (hL 1 _ rfl) (hL 3 _ rfl) (hL 4 _ rfl) hi
      clear hL hi h5
      refine y_iload 5 Y dX6_twice_5 rfl ?_
      refine y_aload_n 7 Y dX6_twice_7 rfl ?_
      refine y_geta 8 Y 2 dX6_twice_8 rfl rfl ?_
      refine y_iload_n 11 Y dX6_twice_11 rfl ?_
      obtain ⟨o1, h⟩ := h
      obtain ⟨o2, h⟩ := h
      refine y_iald 12 Y dX6_twice_12 rfl rfl o1 o2 (fun _ => ?_)
      refine y_icmp 13 65 Y dX6_twice_13 rfl rfl (fun c => ?_) (fun c => ?_)
      · replace h := h.1 c
        refine y_iload_n 65 Y dX6_twice_65 rfl ?_
        refine y_if 66 97 Y dX6_twice_66 rfl rfl (fun c => ?_) (fun c => ?_)
        · replace h := h.1 c
          exact y_ret 97 Y dX6_twice_97 rfl h
        · replace h := h.2 c
          refine y_aload_n 69 Y dX6_twice_69 rfl ?_
          refine y_geta 70 Y 1 dX6_twice_70 rfl rfl ?_
          refine y_sipush 73 Y dX6_twice_73 rfl ?_
          refine y_iload_n 76 Y dX6_twice_76 rfl ?_
          obtain ⟨o3, h⟩ := h
          refine y_imul 77 Y dX6_twice_77 o3 ?_
          refine y_aload_n 78 Y dX6_twice_78 rfl ?_
          refine y_geta 79 Y 2 dX6_twice_79 rfl rfl ?_
          refine y_iload_n 82 Y dX6_twice_82 rfl ?_
          refine y_iald 83 Y dX6_twice_83 rfl rfl o1 o2 (fun _ => ?_)
          obtain ⟨o4, h⟩ := h
          refine y_iadd 84 Y dX6_twice_84 o4 ?_
          refine y_iload_n 85 Y dX6_twice_85 rfl ?_
          obtain ⟨o5, h⟩ := h
          obtain ⟨o6, h⟩ := h
          refine y_iast 86 Y dX6_twice_86 rfl rfl o5 o6 ?_
          refine y_aload_n 87 Y dX6_twice_87 rfl ?_
          refine y_geta 88 Y 2 dX6_twice_88 rfl rfl ?_
          refine y_iload_n 91 Y dX6_twice_91 rfl ?_
          refine y_dup2 92 Y dX6_twice_92 rfl rfl ?_
          refine y_iald 93 Y dX6_twice_93 rfl rfl o1 o2 (fun _ => ?_)
          refine y_iconst 94 Y dX6_twice_94 rfl ?_
          obtain ⟨o7, h⟩ := h
          refine y_iadd 95 Y dX6_twice_95 o7 ?_
          refine y_iast 96 Y dX6_twice_96 rfl rfl o1 o2 ?_
          exact y_ret 97 Y dX6_twice_97 rfl h
      · replace h := h.2 c
        refine y_iconst 16 Y dX6_twice_16 rfl ?_
        refine y_aload_n 17 Y dX6_twice_17 rfl ?_
        refine y_geta 18 Y 1 dX6_twice_18 rfl rfl ?_
        refine y_sipush 21 Y dX6_twice_21 rfl ?_
        refine y_iload_n 24 Y dX6_twice_24 rfl ?_
        obtain ⟨o8, h⟩ := h
        refine y_imul 25 Y dX6_twice_25 o8 ?_
        refine y_iload 26 Y dX6_twice_26 rfl ?_
        obtain ⟨o9, h⟩ := h
        refine y_iadd 28 Y dX6_twice_28 o9 ?_
        obtain ⟨o10, h⟩ := h
        obtain ⟨o11, h⟩ := h
        refine y_iald 29 Y dX6_twice_29 rfl rfl o10 o11 (fun _ => ?_)
        obtain ⟨o12, h⟩ := h
        refine y_imul 30 Y dX6_twice_30 o12 ?_
        refine y_iload_n 31 Y dX6_twice_31 rfl ?_
        obtain ⟨o13, h⟩ := h
        refine y_iadd 32 Y dX6_twice_32 o13 ?_
        refine y_istore 33 Y [some mt, some (mi l1), none, some (mi l3), some (mi l4), some (mi ((2 * (T 1 ((440 * l1) + l4))) + l3))] dX6_twice_33 rfl rfl ?_
        refine y_aload_n 35 Y dX6_twice_35 rfl ?_
        refine y_geta 36 Y 1 dX6_twice_36 rfl rfl ?_
        refine y_sipush 39 Y dX6_twice_39 rfl ?_
        refine y_iload_n 42 Y dX6_twice_42 rfl ?_
        refine y_imul 43 Y dX6_twice_43 o8 ?_
        refine y_iload 44 Y dX6_twice_44 rfl ?_
        refine y_iadd 46 Y dX6_twice_46 o9 ?_
        refine y_iload 47 Y dX6_twice_47 rfl ?_
        refine y_ldc 49 Y dX6_twice_49 rfl ?_
        refine y_iand 51 Y dX6_twice_51 mm_65535 ?_
        refine y_iast 52 Y dX6_twice_52 rfl rfl o10 o11 ?_
        refine y_iload 53 Y dX6_twice_53 rfl ?_
        refine y_bipush 55 Y dX6_twice_55 rfl ?_
        refine y_ishr 57 Y 65536 rfl dX6_twice_57 (by decide) (by decide) ?_
        refine y_istore_n 58 Y [some mt, some (mi l1), none, some (mi (((2 * (T 1 ((440 * l1) + l4))) + l3) / 65536)), some (mi l4), some (mi ((2 * (T 1 ((440 * l1) + l4))) + l3))] dX6_twice_58 rfl rfl ?_
        obtain ⟨o14, h⟩ := h
        refine y_iinc 59 Y [some mt, some (mi l1), none, some (mi (((2 * (T 1 ((440 * l1) + l4))) + l3) / 65536)), some (mi (l4 + 1)), some (mi ((2 * (T 1 ((440 * l1) + l4))) + l3))] dX6_twice_59 rfl rfl o14 ?_
        refine y_goto 62 5 Y dX6_twice_62 rfl rfl ?_
        obtain ⟨n1, hn, h⟩ := h
        exact Wk 5 _ [some mt, some (mi l1), none, some (mi (((2 * (T 1 ((440 * l1) + l4))) + l3) / 65536)), some (mi (l4 + 1)), none] _ _ ⟨rfl, ⟨rfl, ⟨rfl, ⟨rfl, trivial⟩⟩⟩⟩ (hIc n1 _ _ _ _ hn ((⟨rfl, _, _, _, rfl, rfl, h⟩)))
set_option maxHeartbeats 4000000 in
theorem of_typedAt {g : mG} {S : mS} {a1 : Int} {Qp : Option mV → mS → Prop}
    (hE : mI S → (-2147483648 ≤ a1 ∧ a1 ≤ 2147483647) → (((S 19 0) ≤ a1) → Qp (some (mi (-1))) S) ∧ (¬ ((S 19 0) ≤ a1) → (0 ≤ a1) ∧ (a1 < 60) ∧ Qp (some (mi (S 18 a1))) S))
    : CX_typedAt g [mt, mi a1] S Qp := by
  refine cm_y ⟨by decide, rfl⟩ (by simp [mcat]) (by simp) (fun _ _ _ _ _ => False) ?_ ?_
  · intro ha hS P Y Wk hIc
    have h := hE hS (mokI (ha (mi a1) (by simp)))
    clear hE ha
    refine y_iload_n 0 Y dX6_typedAt_0 rfl ?_
    refine y_aload_n 1 Y dX6_typedAt_1 rfl ?_
    refine y_getf 2 Y 19 dX6_typedAt_2 rfl rfl (fun _ => ?_)
    refine y_icmp 5 17 Y dX6_typedAt_5 rfl rfl (fun c => ?_) (fun c => ?_)
    · replace h := h.1 c
      refine y_iconst 17 Y dX6_typedAt_17 rfl ?_
      exact y_iret 18 Y dX6_typedAt_18 rfl h
    · replace h := h.2 c
      refine y_aload_n 8 Y dX6_typedAt_8 rfl ?_
      refine y_geta 9 Y 18 dX6_typedAt_9 rfl rfl ?_
      refine y_iload_n 12 Y dX6_typedAt_12 rfl ?_
      obtain ⟨o1, h⟩ := h
      obtain ⟨o2, h⟩ := h
      refine y_iald 13 Y dX6_typedAt_13 rfl rfl o1 o2 (fun _ => ?_)
      refine y_goto 14 18 Y dX6_typedAt_14 rfl rfl ?_
      exact y_iret 18 Y dX6_typedAt_18 rfl h
  · intro n pc L st T hi
    exact hi.elim
set_option maxHeartbeats 4000000 in
theorem of_valueAt {g : mG} {S : mS} {a1 : Int} {Qp : Option mV → mS → Prop}
    (hE : mI S → (-2147483648 ≤ a1 ∧ a1 ≤ 2147483647) → (-2147483648 ≤ ((2 * a1) : Int) ∧ (2 * a1) ≤ 2147483647) ∧ (-2147483648 ≤ ((2500 + (2 * a1)) : Int) ∧ (2500 + (2 * a1)) ≤ 2147483647) ∧ Qp (some (mi (2500 + (2 * a1)))) S)
    : CX_valueAt g [mi a1] S Qp := by
  refine cm_y ⟨by decide, rfl⟩ (by simp [mcat]) (by simp) (fun _ _ _ _ _ => False) ?_ ?_
  · intro ha hS P Y Wk hIc
    have h := hE hS (mokI (ha (mi a1) (by simp)))
    clear hE ha
    refine y_sipush 0 Y dX6_valueAt_0 rfl ?_
    refine y_iconst 3 Y dX6_valueAt_3 rfl ?_
    refine y_iload_n 4 Y dX6_valueAt_4 rfl ?_
    obtain ⟨o1, h⟩ := h
    refine y_imul 5 Y dX6_valueAt_5 o1 ?_
    obtain ⟨o2, h⟩ := h
    refine y_iadd 6 Y dX6_valueAt_6 o2 ?_
    exact y_iret 7 Y dX6_valueAt_7 rfl h
  · intro n pc L st T hi
    exact hi.elim
set_option maxHeartbeats 4000000 in
theorem of_whole {g : mG} {S : mS} {a1 a2 a3 : Int} {Qp : Option mV → mS → Prop} (I96 : Nat → Int → Int → Int → Int → mS → Prop)
    (hE : mI S → (-2147483648 ≤ a1 ∧ a1 ≤ 2147483647) → (-2147483648 ≤ a2 ∧ a2 ≤ 2147483647) → (-2147483648 ≤ a3 ∧ a3 ≤ 2147483647) → ((a1 ≠ 0) → ((a1 ≠ 1) → ((a1 ≠ 2) → ((a1 ≠ 3) → ((a1 ≠ 5) → ((-1) < 0 → Qp (some (mi (-1))) S) ∧ ((-1) = 0 → ((-1) < 999999999 → Qp (some (mi (-1))) S) ∧ ((-1) = 999999999 → Qp (some (mi (-1))) S) ∧ (999999999 < (-1) → Qp (some (mi (-1))) S)) ∧ (0 < (-1) → ((-1) < 999999999 → Qp (some (mi (-1))) S) ∧ ((-1) = 999999999 → Qp (some (mi (-1))) S) ∧ (999999999 < (-1) → Qp (some (mi (-1))) S))) ∧ (¬ (a1 ≠ 5) → ((64 < a3) → ((-1) < 0 → Qp (some (mi (-1))) S) ∧ ((-1) = 0 → ((-1) < 999999999 → Qp (some (mi (-1))) S) ∧ ((-1) = 999999999 → Qp (some (mi (-1))) S) ∧ (999999999 < (-1) → Qp (some (mi (-1))) S)) ∧ (0 < (-1) → ((-1) < 999999999 → Qp (some (mi (-1))) S) ∧ ((-1) = 999999999 → Qp (some (mi (-1))) S) ∧ (999999999 < (-1) → Qp (some (mi (-1))) S))) ∧ (¬ (64 < a3) → (∃ n1, I96 n1 a2 a3 1 0 S)))) ∧ (¬ (a1 ≠ 3) → ((a3 = 0) → ((-1) < 0 → Qp (some (mi (-1))) S) ∧ ((-1) = 0 → ((-1) < 999999999 → Qp (some (mi (-1))) S) ∧ ((-1) = 999999999 → Qp (some (mi (-1))) S) ∧ (999999999 < (-1) → Qp (some (mi (-1))) S)) ∧ (0 < (-1) → ((-1) < 999999999 → Qp (some (mi (-1))) S) ∧ ((-1) = 999999999 → Qp (some (mi (-1))) S) ∧ (999999999 < (-1) → Qp (some (mi (-1))) S))) ∧ (¬ (a3 = 0) → (0 ≤ a2) ∧ (0 < a3) ∧ (((a2 % a3) ≠ 0) → ((-1) < 0 → Qp (some (mi (-1))) S) ∧ ((-1) = 0 → ((-1) < 999999999 → Qp (some (mi (-1))) S) ∧ ((-1) = 999999999 → Qp (some (mi (-1))) S) ∧ (999999999 < (-1) → Qp (some (mi (-1))) S)) ∧ (0 < (-1) → ((-1) < 999999999 → Qp (some (mi (-1))) S) ∧ ((-1) = 999999999 → Qp (some (mi (-1))) S) ∧ (999999999 < (-1) → Qp (some (mi (-1))) S))) ∧ (¬ ((a2 % a3) ≠ 0) → ((a2 / a3) < 0 → Qp (some (mi (-1))) S) ∧ ((a2 / a3) = 0 → ((a2 / a3) < 999999999 → (-2147483648 ≤ ((a2 / a3) : Int) ∧ (a2 / a3) ≤ 2147483647) ∧ Qp (some (mi (a2 / a3))) S) ∧ ((a2 / a3) = 999999999 → (-2147483648 ≤ ((a2 / a3) : Int) ∧ (a2 / a3) ≤ 2147483647) ∧ Qp (some (mi (a2 / a3))) S) ∧ (999999999 < (a2 / a3) → Qp (some (mi (-1))) S)) ∧ (0 < (a2 / a3) → ((a2 / a3) < 999999999 → (-2147483648 ≤ ((a2 / a3) : Int) ∧ (a2 / a3) ≤ 2147483647) ∧ Qp (some (mi (a2 / a3))) S) ∧ ((a2 / a3) = 999999999 → (-2147483648 ≤ ((a2 / a3) : Int) ∧ (a2 / a3) ≤ 2147483647) ∧ Qp (some (mi (a2 / a3))) S) ∧ (999999999 < (a2 / a3) → Qp (some (mi (-1))) S)))))) ∧ (¬ (a1 ≠ 2) → (-9223372036854775808 ≤ ((a2 * a3) : Int) ∧ (a2 * a3) ≤ 9223372036854775807) ∧ ((a2 * a3) < 0 → Qp (some (mi (-1))) S) ∧ ((a2 * a3) = 0 → ((a2 * a3) < 999999999 → (-2147483648 ≤ ((a2 * a3) : Int) ∧ (a2 * a3) ≤ 2147483647) ∧ Qp (some (mi (a2 * a3))) S) ∧ ((a2 * a3) = 999999999 → (-2147483648 ≤ ((a2 * a3) : Int) ∧ (a2 * a3) ≤ 2147483647) ∧ Qp (some (mi (a2 * a3))) S) ∧ (999999999 < (a2 * a3) → Qp (some (mi (-1))) S)) ∧ (0 < (a2 * a3) → ((a2 * a3) < 999999999 → (-2147483648 ≤ ((a2 * a3) : Int) ∧ (a2 * a3) ≤ 2147483647) ∧ Qp (some (mi (a2 * a3))) S) ∧ ((a2 * a3) = 999999999 → (-2147483648 ≤ ((a2 * a3) : Int) ∧ (a2 * a3) ≤ 2147483647) ∧ Qp (some (mi (a2 * a3))) S) ∧ (999999999 < (a2 * a3) → Qp (some (mi (-1))) S)))) ∧ (¬ (a1 ≠ 1) → (-9223372036854775808 ≤ ((a2 - a3) : Int) ∧ (a2 - a3) ≤ 9223372036854775807) ∧ ((a2 - a3) < 0 → Qp (some (mi (-1))) S) ∧ ((a2 - a3) = 0 → ((a2 - a3) < 999999999 → (-2147483648 ≤ ((a2 - a3) : Int) ∧ (a2 - a3) ≤ 2147483647) ∧ Qp (some (mi (a2 - a3))) S) ∧ ((a2 - a3) = 999999999 → (-2147483648 ≤ ((a2 - a3) : Int) ∧ (a2 - a3) ≤ 2147483647) ∧ Qp (some (mi (a2 - a3))) S) ∧ (999999999 < (a2 - a3) → Qp (some (mi (-1))) S)) ∧ (0 < (a2 - a3) → ((a2 - a3) < 999999999 → (-2147483648 ≤ ((a2 - a3) : Int) ∧ (a2 - a3) ≤ 2147483647) ∧ Qp (some (mi (a2 - a3))) S) ∧ ((a2 - a3) = 999999999 → (-2147483648 ≤ ((a2 - a3) : Int) ∧ (a2 - a3) ≤ 2147483647) ∧ Qp (some (mi (a2 - a3))) S) ∧ (999999999 < (a2 - a3) → Qp (some (mi (-1))) S)))) ∧ (¬ (a1 ≠ 0) → (-9223372036854775808 ≤ ((a2 + a3) : Int) ∧ (a2 + a3) ≤ 9223372036854775807) ∧ ((a2 + a3) < 0 → Qp (some (mi (-1))) S) ∧ ((a2 + a3) = 0 → ((a2 + a3) < 999999999 → (-2147483648 ≤ ((a2 + a3) : Int) ∧ (a2 + a3) ≤ 2147483647) ∧ Qp (some (mi (a2 + a3))) S) ∧ ((a2 + a3) = 999999999 → (-2147483648 ≤ ((a2 + a3) : Int) ∧ (a2 + a3) ≤ 2147483647) ∧ Qp (some (mi (a2 + a3))) S) ∧ (999999999 < (a2 + a3) → Qp (some (mi (-1))) S)) ∧ (0 < (a2 + a3) → ((a2 + a3) < 999999999 → (-2147483648 ≤ ((a2 + a3) : Int) ∧ (a2 + a3) ≤ 2147483647) ∧ Qp (some (mi (a2 + a3))) S) ∧ ((a2 + a3) = 999999999 → (-2147483648 ≤ ((a2 + a3) : Int) ∧ (a2 + a3) ≤ 2147483647) ∧ Qp (some (mi (a2 + a3))) S) ∧ (999999999 < (a2 + a3) → Qp (some (mi (-1))) S))))
    (h96 : ∀ (n : Nat) (l2 l3 l4 l6 : Int) (T : mS), mI T → (-2147483648 ≤ l2 ∧ l2 ≤ 2147483647) → (-2147483648 ≤ l3 ∧ l3 ≤ 2147483647) → (-9223372036854775808 ≤ l4 ∧ l4 ≤ 9223372036854775807) → (-2147483648 ≤ l6 ∧ l6 ≤ 2147483647) → I96 n l2 l3 l4 l6 T → ((l3 ≤ l6) → (l4 < 0 → Qp (some (mi (-1))) T) ∧ (l4 = 0 → (l4 < 999999999 → (-2147483648 ≤ (l4 : Int) ∧ l4 ≤ 2147483647) ∧ Qp (some (mi l4)) T) ∧ (l4 = 999999999 → (-2147483648 ≤ (l4 : Int) ∧ l4 ≤ 2147483647) ∧ Qp (some (mi l4)) T) ∧ (999999999 < l4 → Qp (some (mi (-1))) T)) ∧ (0 < l4 → (l4 < 999999999 → (-2147483648 ≤ (l4 : Int) ∧ l4 ≤ 2147483647) ∧ Qp (some (mi l4)) T) ∧ (l4 = 999999999 → (-2147483648 ≤ (l4 : Int) ∧ l4 ≤ 2147483647) ∧ Qp (some (mi l4)) T) ∧ (999999999 < l4 → Qp (some (mi (-1))) T))) ∧ (¬ (l3 ≤ l6) → (l4 < 999999999 → (-9223372036854775808 ≤ ((l4 * l2) : Int) ∧ (l4 * l2) ≤ 9223372036854775807) ∧ (-2147483648 ≤ ((l6 + 1) : Int) ∧ (l6 + 1) ≤ 2147483647) ∧ (∃ n1, n1 < n ∧ I96 n1 l2 l3 (l4 * l2) (l6 + 1) T)) ∧ (l4 = 999999999 → (-9223372036854775808 ≤ ((l4 * l2) : Int) ∧ (l4 * l2) ≤ 9223372036854775807) ∧ (-2147483648 ≤ ((l6 + 1) : Int) ∧ (l6 + 1) ≤ 2147483647) ∧ (∃ n1, n1 < n ∧ I96 n1 l2 l3 (l4 * l2) (l6 + 1) T)) ∧ (999999999 < l4 → (l4 < 0 → Qp (some (mi (-1))) T) ∧ (l4 = 0 → (l4 < 999999999 → (-2147483648 ≤ (l4 : Int) ∧ l4 ≤ 2147483647) ∧ Qp (some (mi l4)) T) ∧ (l4 = 999999999 → (-2147483648 ≤ (l4 : Int) ∧ l4 ≤ 2147483647) ∧ Qp (some (mi l4)) T) ∧ (999999999 < l4 → Qp (some (mi (-1))) T)) ∧ (0 < l4 → (l4 < 999999999 → (-2147483648 ≤ (l4 : Int) ∧ l4 ≤ 2147483647) ∧ Qp (some (mi l4)) T) ∧ (l4 = 999999999 → (-2147483648 ≤ (l4 : Int) ∧ l4 ≤ 2147483647) ∧ Qp (some (mi l4)) T) ∧ (999999999 < l4 → Qp (some (mi (-1))) T)))))
    : CX_whole g [mt, mi a1, mi a2, mi a3] S Qp := by
  refine cm_y ⟨by decide, rfl⟩ (by simp [mcat]) (by simp) (fun n pc L st S => (pc = 96 ∧ ∃ (l2 : Int) (l3 : Int) (l4 : Int) (l6 : Int), L = [some mt, none, some (mi l2), some (mi l3), some (ml l4), none, some (mi l6)] ∧ st = [] ∧ I96 n l2 l3 l4 l6 S)) ?_ ?_
  · intro ha hS P Y Wk hIc
    have h := hE hS (mokI (ha (mi a1) (by simp))) (mokI (ha (mi a2) (by simp))) (mokI (ha (mi a3) (by simp)))
    clear hE ha h96
    refine y_ldc2_w 0 Y dX6_whole_0 rfl ?_
    refine y_lstore 3 Y [some mt, some (mi a1), some (mi a2), some (mi a3), some (ml (-1)), none, none] dX6_whole_3 rfl rfl ?_
    refine y_iload_n 5 Y dX6_whole_5 rfl ?_
    refine y_if 6 19 Y dX6_whole_6 rfl rfl (fun c => ?_) (fun c => ?_)
    · replace h := h.1 c
      refine y_iload_n 19 Y dX6_whole_19 rfl ?_
      refine y_iconst 20 Y dX6_whole_20 rfl ?_
      refine y_icmp 21 34 Y dX6_whole_21 rfl rfl (fun c => ?_) (fun c => ?_)
      · replace h := h.1 c
        refine y_iload_n 34 Y dX6_whole_34 rfl ?_
        refine y_iconst 35 Y dX6_whole_35 rfl ?_
        refine y_icmp 36 49 Y dX6_whole_36 rfl rfl (fun c => ?_) (fun c => ?_)
        · replace h := h.1 c
          refine y_iload_n 49 Y dX6_whole_49 rfl ?_
          refine y_iconst 50 Y dX6_whole_50 rfl ?_
          refine y_icmp 51 79 Y dX6_whole_51 rfl rfl (fun c => ?_) (fun c => ?_)
          · replace h := h.1 c
            refine y_iload_n 79 Y dX6_whole_79 rfl ?_
            refine y_iconst 80 Y dX6_whole_80 rfl ?_
            refine y_icmp 81 124 Y dX6_whole_81 rfl rfl (fun c => ?_) (fun c => ?_)
            · replace h := h.1 c
              refine y_lload 124 Y dX6_whole_124 rfl ?_
              refine y_lconst 126 Y dX6_whole_126 rfl ?_
              refine y_lcmp 127 Y dX6_whole_127 (fun c => ?_) (fun c => ?_) (fun c => ?_)
              · replace h := h.1 c
                refine y_if 128 146 Y dX6_whole_128 rfl rfl (fun _ => ?_) (fun c => absurd (show ((-1) : Int) < 0 by decide) c)
                refine y_iconst 146 Y dX6_whole_146 rfl ?_
                exact y_iret 147 Y dX6_whole_147 rfl h
              · replace h := h.2.1 c
                refine y_if 128 146 Y dX6_whole_128 rfl rfl (fun c => absurd c (show ¬ ((0 : Int) < 0) by decide)) (fun _ => ?_)
                refine y_lload 131 Y dX6_whole_131 rfl ?_
                refine y_ldc2_w 133 Y dX6_whole_133 rfl ?_
                refine y_lcmp 136 Y dX6_whole_136 (fun c => ?_) (fun c => ?_) (fun c => ?_)
                · replace h := h.1 c
                  refine y_if 137 146 Y dX6_whole_137 rfl rfl (fun c => absurd c (show ¬ ((0 : Int) < (-1)) by decide)) (fun _ => ?_)
                  refine y_lload 140 Y dX6_whole_140 rfl ?_
                  refine y_l2i 142 Y dX6_whole_142 (by decide) ?_
                  refine y_goto 143 147 Y dX6_whole_143 rfl rfl ?_
                  exact y_iret 147 Y dX6_whole_147 rfl h
                · replace h := h.2.1 c
                  refine y_if 137 146 Y dX6_whole_137 rfl rfl (fun c => absurd c (show ¬ ((0 : Int) < 0) by decide)) (fun _ => ?_)
                  refine y_lload 140 Y dX6_whole_140 rfl ?_
                  refine y_l2i 142 Y dX6_whole_142 (by decide) ?_
                  refine y_goto 143 147 Y dX6_whole_143 rfl rfl ?_
                  exact y_iret 147 Y dX6_whole_147 rfl h
                · replace h := h.2.2 c
                  refine y_if 137 146 Y dX6_whole_137 rfl rfl (fun _ => ?_) (fun c => absurd (show (0 : Int) < 1 by decide) c)
                  refine y_iconst 146 Y dX6_whole_146 rfl ?_
                  exact y_iret 147 Y dX6_whole_147 rfl h
              · replace h := h.2.2 c
                refine y_if 128 146 Y dX6_whole_128 rfl rfl (fun c => absurd c (show ¬ ((1 : Int) < 0) by decide)) (fun _ => ?_)
                refine y_lload 131 Y dX6_whole_131 rfl ?_
                refine y_ldc2_w 133 Y dX6_whole_133 rfl ?_
                refine y_lcmp 136 Y dX6_whole_136 (fun c => ?_) (fun c => ?_) (fun c => ?_)
                · replace h := h.1 c
                  refine y_if 137 146 Y dX6_whole_137 rfl rfl (fun c => absurd c (show ¬ ((0 : Int) < (-1)) by decide)) (fun _ => ?_)
                  refine y_lload 140 Y dX6_whole_140 rfl ?_
                  refine y_l2i 142 Y dX6_whole_142 (by decide) ?_
                  refine y_goto 143 147 Y dX6_whole_143 rfl rfl ?_
                  exact y_iret 147 Y dX6_whole_147 rfl h
                · replace h := h.2.1 c
                  refine y_if 137 146 Y dX6_whole_137 rfl rfl (fun c => absurd c (show ¬ ((0 : Int) < 0) by decide)) (fun _ => ?_)
                  refine y_lload 140 Y dX6_whole_140 rfl ?_
                  refine y_l2i 142 Y dX6_whole_142 (by decide) ?_
                  refine y_goto 143 147 Y dX6_whole_143 rfl rfl ?_
                  exact y_iret 147 Y dX6_whole_147 rfl h
                · replace h := h.2.2 c
                  refine y_if 137 146 Y dX6_whole_137 rfl rfl (fun _ => ?_) (fun c => absurd (show (0 : Int) < 1 by decide) c)
                  refine y_iconst 146 Y dX6_whole_146 rfl ?_
                  exact y_iret 147 Y dX6_whole_147 rfl h
            · replace h := h.2 c
              refine y_iload_n 84 Y dX6_whole_84 rfl ?_
              refine y_bipush 85 Y dX6_whole_85 rfl ?_
              refine y_icmp 87 124 Y dX6_whole_87 rfl rfl (fun c => ?_) (fun c => ?_)
              · replace h := h.1 c
                refine y_lload 124 Y dX6_whole_124 rfl ?_
                refine y_lconst 126 Y dX6_whole_126 rfl ?_
                refine y_lcmp 127 Y dX6_whole_127 (fun c => ?_) (fun c => ?_) (fun c => ?_)
                · replace h := h.1 c
                  refine y_if 128 146 Y dX6_whole_128 rfl rfl (fun _ => ?_) (fun c => absurd (show ((-1) : Int) < 0 by decide) c)
                  refine y_iconst 146 Y dX6_whole_146 rfl ?_
                  exact y_iret 147 Y dX6_whole_147 rfl h
                · replace h := h.2.1 c
                  refine y_if 128 146 Y dX6_whole_128 rfl rfl (fun c => absurd c (show ¬ ((0 : Int) < 0) by decide)) (fun _ => ?_)
                  refine y_lload 131 Y dX6_whole_131 rfl ?_
                  refine y_ldc2_w 133 Y dX6_whole_133 rfl ?_
                  refine y_lcmp 136 Y dX6_whole_136 (fun c => ?_) (fun c => ?_) (fun c => ?_)
                  · replace h := h.1 c
                    refine y_if 137 146 Y dX6_whole_137 rfl rfl (fun c => absurd c (show ¬ ((0 : Int) < (-1)) by decide)) (fun _ => ?_)
                    refine y_lload 140 Y dX6_whole_140 rfl ?_
                    refine y_l2i 142 Y dX6_whole_142 (by decide) ?_
                    refine y_goto 143 147 Y dX6_whole_143 rfl rfl ?_
                    exact y_iret 147 Y dX6_whole_147 rfl h
                  · replace h := h.2.1 c
                    refine y_if 137 146 Y dX6_whole_137 rfl rfl (fun c => absurd c (show ¬ ((0 : Int) < 0) by decide)) (fun _ => ?_)
                    refine y_lload 140 Y dX6_whole_140 rfl ?_
                    refine y_l2i 142 Y dX6_whole_142 (by decide) ?_
                    refine y_goto 143 147 Y dX6_whole_143 rfl rfl ?_
                    exact y_iret 147 Y dX6_whole_147 rfl h
                  · replace h := h.2.2 c
                    refine y_if 137 146 Y dX6_whole_137 rfl rfl (fun _ => ?_) (fun c => absurd (show (0 : Int) < 1 by decide) c)
                    refine y_iconst 146 Y dX6_whole_146 rfl ?_
                    exact y_iret 147 Y dX6_whole_147 rfl h
                · replace h := h.2.2 c
                  refine y_if 128 146 Y dX6_whole_128 rfl rfl (fun c => absurd c (show ¬ ((1 : Int) < 0) by decide)) (fun _ => ?_)
                  refine y_lload 131 Y dX6_whole_131 rfl ?_
                  refine y_ldc2_w 133 Y dX6_whole_133 rfl ?_
                  refine y_lcmp 136 Y dX6_whole_136 (fun c => ?_) (fun c => ?_) (fun c => ?_)
                  · replace h := h.1 c
                    refine y_if 137 146 Y dX6_whole_137 rfl rfl (fun c => absurd c (show ¬ ((0 : Int) < (-1)) by decide)) (fun _ => ?_)
                    refine y_lload 140 Y dX6_whole_140 rfl ?_
                    refine y_l2i 142 Y dX6_whole_142 (by decide) ?_
                    refine y_goto 143 147 Y dX6_whole_143 rfl rfl ?_
                    exact y_iret 147 Y dX6_whole_147 rfl h
                  · replace h := h.2.1 c
                    refine y_if 137 146 Y dX6_whole_137 rfl rfl (fun c => absurd c (show ¬ ((0 : Int) < 0) by decide)) (fun _ => ?_)
                    refine y_lload 140 Y dX6_whole_140 rfl ?_
                    refine y_l2i 142 Y dX6_whole_142 (by decide) ?_
                    refine y_goto 143 147 Y dX6_whole_143 rfl rfl ?_
                    exact y_iret 147 Y dX6_whole_147 rfl h
                  · replace h := h.2.2 c
                    refine y_if 137 146 Y dX6_whole_137 rfl rfl (fun _ => ?_) (fun c => absurd (show (0 : Int) < 1 by decide) c)
                    refine y_iconst 146 Y dX6_whole_146 rfl ?_
                    exact y_iret 147 Y dX6_whole_147 rfl h
              · replace h := h.2 c
                refine y_lconst 90 Y dX6_whole_90 rfl ?_
                refine y_lstore 91 Y [some mt, some (mi a1), some (mi a2), some (mi a3), some (ml 1), none, none] dX6_whole_91 rfl rfl ?_
                refine y_iconst 93 Y dX6_whole_93 rfl ?_
                refine y_istore 94 Y [some mt, some (mi a1), some (mi a2), some (mi a3), some (ml 1), none, some (mi 0)] dX6_whole_94 rfl rfl ?_
                obtain ⟨n1, h⟩ := h
                exact Wk 96 _ [some mt, none, some (mi a2), some (mi a3), some (ml 1), none, some (mi 0)] _ _ ⟨rfl, ⟨rfl, ⟨rfl, ⟨rfl, ⟨rfl, trivial⟩⟩⟩⟩⟩ (hIc n1 _ _ _ _ ((⟨rfl, _, _, _, _, rfl, rfl, h⟩)))
          · replace h := h.2 c
            refine y_iload_n 54 Y dX6_whole_54 rfl ?_
            refine y_if 55 71 Y dX6_whole_55 rfl rfl (fun c => ?_) (fun c => ?_)
            · replace h := h.1 c
              refine y_ldc2_w 71 Y dX6_whole_71 rfl ?_
              refine y_lstore 74 Y [some mt, some (mi a1), some (mi a2), some (mi a3), some (ml (-1)), none, none] dX6_whole_74 rfl rfl ?_
              refine y_goto 76 124 Y dX6_whole_76 rfl rfl ?_
              refine y_lload 124 Y dX6_whole_124 rfl ?_
              refine y_lconst 126 Y dX6_whole_126 rfl ?_
              refine y_lcmp 127 Y dX6_whole_127 (fun c => ?_) (fun c => ?_) (fun c => ?_)
              · replace h := h.1 c
                refine y_if 128 146 Y dX6_whole_128 rfl rfl (fun _ => ?_) (fun c => absurd (show ((-1) : Int) < 0 by decide) c)
                refine y_iconst 146 Y dX6_whole_146 rfl ?_
                exact y_iret 147 Y dX6_whole_147 rfl h
              · replace h := h.2.1 c
                refine y_if 128 146 Y dX6_whole_128 rfl rfl (fun c => absurd c (show ¬ ((0 : Int) < 0) by decide)) (fun _ => ?_)
                refine y_lload 131 Y dX6_whole_131 rfl ?_
                refine y_ldc2_w 133 Y dX6_whole_133 rfl ?_
                refine y_lcmp 136 Y dX6_whole_136 (fun c => ?_) (fun c => ?_) (fun c => ?_)
                · replace h := h.1 c
                  refine y_if 137 146 Y dX6_whole_137 rfl rfl (fun c => absurd c (show ¬ ((0 : Int) < (-1)) by decide)) (fun _ => ?_)
                  refine y_lload 140 Y dX6_whole_140 rfl ?_
                  refine y_l2i 142 Y dX6_whole_142 (by decide) ?_
                  refine y_goto 143 147 Y dX6_whole_143 rfl rfl ?_
                  exact y_iret 147 Y dX6_whole_147 rfl h
                · replace h := h.2.1 c
                  refine y_if 137 146 Y dX6_whole_137 rfl rfl (fun c => absurd c (show ¬ ((0 : Int) < 0) by decide)) (fun _ => ?_)
                  refine y_lload 140 Y dX6_whole_140 rfl ?_
                  refine y_l2i 142 Y dX6_whole_142 (by decide) ?_
                  refine y_goto 143 147 Y dX6_whole_143 rfl rfl ?_
                  exact y_iret 147 Y dX6_whole_147 rfl h
                · replace h := h.2.2 c
                  refine y_if 137 146 Y dX6_whole_137 rfl rfl (fun _ => ?_) (fun c => absurd (show (0 : Int) < 1 by decide) c)
                  refine y_iconst 146 Y dX6_whole_146 rfl ?_
                  exact y_iret 147 Y dX6_whole_147 rfl h
              · replace h := h.2.2 c
                refine y_if 128 146 Y dX6_whole_128 rfl rfl (fun c => absurd c (show ¬ ((1 : Int) < 0) by decide)) (fun _ => ?_)
                refine y_lload 131 Y dX6_whole_131 rfl ?_
                refine y_ldc2_w 133 Y dX6_whole_133 rfl ?_
                refine y_lcmp 136 Y dX6_whole_136 (fun c => ?_) (fun c => ?_) (fun c => ?_)
                · replace h := h.1 c
                  refine y_if 137 146 Y dX6_whole_137 rfl rfl (fun c => absurd c (show ¬ ((0 : Int) < (-1)) by decide)) (fun _ => ?_)
                  refine y_lload 140 Y dX6_whole_140 rfl ?_
                  refine y_l2i 142 Y dX6_whole_142 (by decide) ?_
                  refine y_goto 143 147 Y dX6_whole_143 rfl rfl ?_
                  exact y_iret 147 Y dX6_whole_147 rfl h
                · replace h := h.2.1 c
                  refine y_if 137 146 Y dX6_whole_137 rfl rfl (fun c => absurd c (show ¬ ((0 : Int) < 0) by decide)) (fun _ => ?_)
                  refine y_lload 140 Y dX6_whole_140 rfl ?_
                  refine y_l2i 142 Y dX6_whole_142 (by decide) ?_
                  refine y_goto 143 147 Y dX6_whole_143 rfl rfl ?_
                  exact y_iret 147 Y dX6_whole_147 rfl h
                · replace h := h.2.2 c
                  refine y_if 137 146 Y dX6_whole_137 rfl rfl (fun _ => ?_) (fun c => absurd (show (0 : Int) < 1 by decide) c)
                  refine y_iconst 146 Y dX6_whole_146 rfl ?_
                  exact y_iret 147 Y dX6_whole_147 rfl h
            · replace h := h.2 c
              refine y_iload_n 58 Y dX6_whole_58 rfl ?_
              refine y_iload_n 59 Y dX6_whole_59 rfl ?_
              obtain ⟨o1, h⟩ := h
              obtain ⟨o2, h⟩ := h
              refine y_irem 60 Y dX6_whole_60 o1 o2 ?_
              refine y_if 61 71 Y dX6_whole_61 rfl rfl (fun c => ?_) (fun c => ?_)
              · replace h := h.1 c
                refine y_ldc2_w 71 Y dX6_whole_71 rfl ?_
                refine y_lstore 74 Y [some mt, some (mi a1), some (mi a2), some (mi a3), some (ml (-1)), none, none] dX6_whole_74 rfl rfl ?_
                refine y_goto 76 124 Y dX6_whole_76 rfl rfl ?_
                refine y_lload 124 Y dX6_whole_124 rfl ?_
                refine y_lconst 126 Y dX6_whole_126 rfl ?_
                refine y_lcmp 127 Y dX6_whole_127 (fun c => ?_) (fun c => ?_) (fun c => ?_)
                · replace h := h.1 c
                  refine y_if 128 146 Y dX6_whole_128 rfl rfl (fun _ => ?_) (fun c => absurd (show ((-1) : Int) < 0 by decide) c)
                  refine y_iconst 146 Y dX6_whole_146 rfl ?_
                  exact y_iret 147 Y dX6_whole_147 rfl h
                · replace h := h.2.1 c
                  refine y_if 128 146 Y dX6_whole_128 rfl rfl (fun c => absurd c (show ¬ ((0 : Int) < 0) by decide)) (fun _ => ?_)
                  refine y_lload 131 Y dX6_whole_131 rfl ?_
                  refine y_ldc2_w 133 Y dX6_whole_133 rfl ?_
                  refine y_lcmp 136 Y dX6_whole_136 (fun c => ?_) (fun c => ?_) (fun c => ?_)
                  · replace h := h.1 c
                    refine y_if 137 146 Y dX6_whole_137 rfl rfl (fun c => absurd c (show ¬ ((0 : Int) < (-1)) by decide)) (fun _ => ?_)
                    refine y_lload 140 Y dX6_whole_140 rfl ?_
                    refine y_l2i 142 Y dX6_whole_142 (by decide) ?_
                    refine y_goto 143 147 Y dX6_whole_143 rfl rfl ?_
                    exact y_iret 147 Y dX6_whole_147 rfl h
                  · replace h := h.2.1 c
                    refine y_if 137 146 Y dX6_whole_137 rfl rfl (fun c => absurd c (show ¬ ((0 : Int) < 0) by decide)) (fun _ => ?_)
                    refine y_lload 140 Y dX6_whole_140 rfl ?_
                    refine y_l2i 142 Y dX6_whole_142 (by decide) ?_
                    refine y_goto 143 147 Y dX6_whole_143 rfl rfl ?_
                    exact y_iret 147 Y dX6_whole_147 rfl h
                  · replace h := h.2.2 c
                    refine y_if 137 146 Y dX6_whole_137 rfl rfl (fun _ => ?_) (fun c => absurd (show (0 : Int) < 1 by decide) c)
                    refine y_iconst 146 Y dX6_whole_146 rfl ?_
                    exact y_iret 147 Y dX6_whole_147 rfl h
                · replace h := h.2.2 c
                  refine y_if 128 146 Y dX6_whole_128 rfl rfl (fun c => absurd c (show ¬ ((1 : Int) < 0) by decide)) (fun _ => ?_)
                  refine y_lload 131 Y dX6_whole_131 rfl ?_
                  refine y_ldc2_w 133 Y dX6_whole_133 rfl ?_
                  refine y_lcmp 136 Y dX6_whole_136 (fun c => ?_) (fun c => ?_) (fun c => ?_)
                  · replace h := h.1 c
                    refine y_if 137 146 Y dX6_whole_137 rfl rfl (fun c => absurd c (show ¬ ((0 : Int) < (-1)) by decide)) (fun _ => ?_)
                    refine y_lload 140 Y dX6_whole_140 rfl ?_
                    refine y_l2i 142 Y dX6_whole_142 (by decide) ?_
                    refine y_goto 143 147 Y dX6_whole_143 rfl rfl ?_
                    exact y_iret 147 Y dX6_whole_147 rfl h
                  · replace h := h.2.1 c
                    refine y_if 137 146 Y dX6_whole_137 rfl rfl (fun c => absurd c (show ¬ ((0 : Int) < 0) by decide)) (fun _ => ?_)
                    refine y_lload 140 Y dX6_whole_140 rfl ?_
                    refine y_l2i 142 Y dX6_whole_142 (by decide) ?_
                    refine y_goto 143 147 Y dX6_whole_143 rfl rfl ?_
                    exact y_iret 147 Y dX6_whole_147 rfl h
                  · replace h := h.2.2 c
                    refine y_if 137 146 Y dX6_whole_137 rfl rfl (fun _ => ?_) (fun c => absurd (show (0 : Int) < 1 by decide) c)
                    refine y_iconst 146 Y dX6_whole_146 rfl ?_
                    exact y_iret 147 Y dX6_whole_147 rfl h
              · replace h := h.2 c
                refine y_iload_n 64 Y dX6_whole_64 rfl ?_
                refine y_iload_n 65 Y dX6_whole_65 rfl ?_
                refine y_idiv 66 Y dX6_whole_66 o1 o2 ?_
                refine y_i2l 67 Y dX6_whole_67 ?_
                refine y_goto 68 74 Y dX6_whole_68 rfl rfl ?_
                refine y_lstore 74 Y [some mt, some (mi a1), some (mi a2), some (mi a3), some (ml (a2 / a3)), none, none] dX6_whole_74 rfl rfl ?_
                refine y_goto 76 124 Y dX6_whole_76 rfl rfl ?_
                refine y_lload 124 Y dX6_whole_124 rfl ?_
                refine y_lconst 126 Y dX6_whole_126 rfl ?_
                refine y_lcmp 127 Y dX6_whole_127 (fun c => ?_) (fun c => ?_) (fun c => ?_)
                · replace h := h.1 c
                  refine y_if 128 146 Y dX6_whole_128 rfl rfl (fun _ => ?_) (fun c => absurd (show ((-1) : Int) < 0 by decide) c)
                  refine y_iconst 146 Y dX6_whole_146 rfl ?_
                  exact y_iret 147 Y dX6_whole_147 rfl h
                · replace h := h.2.1 c
                  refine y_if 128 146 Y dX6_whole_128 rfl rfl (fun c => absurd c (show ¬ ((0 : Int) < 0) by decide)) (fun _ => ?_)
                  refine y_lload 131 Y dX6_whole_131 rfl ?_
                  refine y_ldc2_w 133 Y dX6_whole_133 rfl ?_
                  refine y_lcmp 136 Y dX6_whole_136 (fun c => ?_) (fun c => ?_) (fun c => ?_)
                  · replace h := h.1 c
                    refine y_if 137 146 Y dX6_whole_137 rfl rfl (fun c => absurd c (show ¬ ((0 : Int) < (-1)) by decide)) (fun _ => ?_)
                    refine y_lload 140 Y dX6_whole_140 rfl ?_
                    obtain ⟨o3, h⟩ := h
                    refine y_l2i 142 Y dX6_whole_142 o3 ?_
                    refine y_goto 143 147 Y dX6_whole_143 rfl rfl ?_
                    exact y_iret 147 Y dX6_whole_147 rfl h
                  · replace h := h.2.1 c
                    refine y_if 137 146 Y dX6_whole_137 rfl rfl (fun c => absurd c (show ¬ ((0 : Int) < 0) by decide)) (fun _ => ?_)
                    refine y_lload 140 Y dX6_whole_140 rfl ?_
                    obtain ⟨o4, h⟩ := h
                    refine y_l2i 142 Y dX6_whole_142 o4 ?_
                    refine y_goto 143 147 Y dX6_whole_143 rfl rfl ?_
                    exact y_iret 147 Y dX6_whole_147 rfl h
                  · replace h := h.2.2 c
                    refine y_if 137 146 Y dX6_whole_137 rfl rfl (fun _ => ?_) (fun c => absurd (show (0 : Int) < 1 by decide) c)
                    refine y_iconst 146 Y dX6_whole_146 rfl ?_
                    exact y_iret 147 Y dX6_whole_147 rfl h
                · replace h := h.2.2 c
                  refine y_if 128 146 Y dX6_whole_128 rfl rfl (fun c => absurd c (show ¬ ((1 : Int) < 0) by decide)) (fun _ => ?_)
                  refine y_lload 131 Y dX6_whole_131 rfl ?_
                  refine y_ldc2_w 133 Y dX6_whole_133 rfl ?_
                  refine y_lcmp 136 Y dX6_whole_136 (fun c => ?_) (fun c => ?_) (fun c => ?_)
                  · replace h := h.1 c
                    refine y_if 137 146 Y dX6_whole_137 rfl rfl (fun c => absurd c (show ¬ ((0 : Int) < (-1)) by decide)) (fun _ => ?_)
                    refine y_lload 140 Y dX6_whole_140 rfl ?_
                    obtain ⟨o5, h⟩ := h
                    refine y_l2i 142 Y dX6_whole_142 o5 ?_
                    refine y_goto 143 147 Y dX6_whole_143 rfl rfl ?_
                    exact y_iret 147 Y dX6_whole_147 rfl h
                  · replace h := h.2.1 c
                    refine y_if 137 146 Y dX6_whole_137 rfl rfl (fun c => absurd c (show ¬ ((0 : Int) < 0) by decide)) (fun _ => ?_)
                    refine y_lload 140 Y dX6_whole_140 rfl ?_
                    obtain ⟨o6, h⟩ := h
                    refine y_l2i 142 Y dX6_whole_142 o6 ?_
                    refine y_goto 143 147 Y dX6_whole_143 rfl rfl ?_
                    exact y_iret 147 Y dX6_whole_147 rfl h
                  · replace h := h.2.2 c
                    refine y_if 137 146 Y dX6_whole_137 rfl rfl (fun _ => ?_) (fun c => absurd (show (0 : Int) < 1 by decide) c)
                    refine y_iconst 146 Y dX6_whole_146 rfl ?_
                    exact y_iret 147 Y dX6_whole_147 rfl h
        · replace h := h.2 c
          refine y_iload_n 39 Y dX6_whole_39 rfl ?_
          refine y_i2l 40 Y dX6_whole_40 ?_
          refine y_iload_n 41 Y dX6_whole_41 rfl ?_
          refine y_i2l 42 Y dX6_whole_42 ?_
          obtain ⟨o7, h⟩ := h
          refine y_lmul 43 Y dX6_whole_43 o7 ?_
          refine y_lstore 44 Y [some mt, some (mi a1), some (mi a2), some (mi a3), some (ml (a2 * a3)), none, none] dX6_whole_44 rfl rfl ?_
          refine y_goto 46 124 Y dX6_whole_46 rfl rfl ?_
          refine y_lload 124 Y dX6_whole_124 rfl ?_
          refine y_lconst 126 Y dX6_whole_126 rfl ?_
          refine y_lcmp 127 Y dX6_whole_127 (fun c => ?_) (fun c => ?_) (fun c => ?_)
          · replace h := h.1 c
            refine y_if 128 146 Y dX6_whole_128 rfl rfl (fun _ => ?_) (fun c => absurd (show ((-1) : Int) < 0 by decide) c)
            refine y_iconst 146 Y dX6_whole_146 rfl ?_
            exact y_iret 147 Y dX6_whole_147 rfl h
          · replace h := h.2.1 c
            refine y_if 128 146 Y dX6_whole_128 rfl rfl (fun c => absurd c (show ¬ ((0 : Int) < 0) by decide)) (fun _ => ?_)
            refine y_lload 131 Y dX6_whole_131 rfl ?_
            refine y_ldc2_w 133 Y dX6_whole_133 rfl ?_
            refine y_lcmp 136 Y dX6_whole_136 (fun c => ?_) (fun c => ?_) (fun c => ?_)
            · replace h := h.1 c
              refine y_if 137 146 Y dX6_whole_137 rfl rfl (fun c => absurd c (show ¬ ((0 : Int) < (-1)) by decide)) (fun _ => ?_)
              refine y_lload 140 Y dX6_whole_140 rfl ?_
              obtain ⟨o8, h⟩ := h
              refine y_l2i 142 Y dX6_whole_142 o8 ?_
              refine y_goto 143 147 Y dX6_whole_143 rfl rfl ?_
              exact y_iret 147 Y dX6_whole_147 rfl h
            · replace h := h.2.1 c
              refine y_if 137 146 Y dX6_whole_137 rfl rfl (fun c => absurd c (show ¬ ((0 : Int) < 0) by decide)) (fun _ => ?_)
              refine y_lload 140 Y dX6_whole_140 rfl ?_
              obtain ⟨o9, h⟩ := h
              refine y_l2i 142 Y dX6_whole_142 o9 ?_
              refine y_goto 143 147 Y dX6_whole_143 rfl rfl ?_
              exact y_iret 147 Y dX6_whole_147 rfl h
            · replace h := h.2.2 c
              refine y_if 137 146 Y dX6_whole_137 rfl rfl (fun _ => ?_) (fun c => absurd (show (0 : Int) < 1 by decide) c)
              refine y_iconst 146 Y dX6_whole_146 rfl ?_
              exact y_iret 147 Y dX6_whole_147 rfl h
          · replace h := h.2.2 c
            refine y_if 128 146 Y dX6_whole_128 rfl rfl (fun c => absurd c (show ¬ ((1 : Int) < 0) by decide)) (fun _ => ?_)
            refine y_lload 131 Y dX6_whole_131 rfl ?_
            refine y_ldc2_w 133 Y dX6_whole_133 rfl ?_
            refine y_lcmp 136 Y dX6_whole_136 (fun c => ?_) (fun c => ?_) (fun c => ?_)
            · replace h := h.1 c
              refine y_if 137 146 Y dX6_whole_137 rfl rfl (fun c => absurd c (show ¬ ((0 : Int) < (-1)) by decide)) (fun _ => ?_)
              refine y_lload 140 Y dX6_whole_140 rfl ?_
              obtain ⟨o10, h⟩ := h
              refine y_l2i 142 Y dX6_whole_142 o10 ?_
              refine y_goto 143 147 Y dX6_whole_143 rfl rfl ?_
              exact y_iret 147 Y dX6_whole_147 rfl h
            · replace h := h.2.1 c
              refine y_if 137 146 Y dX6_whole_137 rfl rfl (fun c => absurd c (show ¬ ((0 : Int) < 0) by decide)) (fun _ => ?_)
              refine y_lload 140 Y dX6_whole_140 rfl ?_
              obtain ⟨o11, h⟩ := h
              refine y_l2i 142 Y dX6_whole_142 o11 ?_
              refine y_goto 143 147 Y dX6_whole_143 rfl rfl ?_
              exact y_iret 147 Y dX6_whole_147 rfl h
            · replace h := h.2.2 c
              refine y_if 137 146 Y dX6_whole_137 rfl rfl (fun _ => ?_) (fun c => absurd (show (0 : Int) < 1 by decide) c)
              refine y_iconst 146 Y dX6_whole_146 rfl ?_
              exact y_iret 147 Y dX6_whole_147 rfl h
      · replace h := h.2 c
        refine y_iload_n 24 Y dX6_whole_24 rfl ?_
        refine y_i2l 25 Y dX6_whole_25 ?_
        refine y_iload_n 26 Y dX6_whole_26 rfl ?_
        refine y_i2l 27 Y dX6_whole_27 ?_
        obtain ⟨o12, h⟩ := h
        refine y_lsub 28 Y dX6_whole_28 o12 ?_
        refine y_lstore 29 Y [some mt, some (mi a1), some (mi a2), some (mi a3), some (ml (a2 - a3)), none, none] dX6_whole_29 rfl rfl ?_
        refine y_goto 31 124 Y dX6_whole_31 rfl rfl ?_
        refine y_lload 124 Y dX6_whole_124 rfl ?_
        refine y_lconst 126 Y dX6_whole_126 rfl ?_
        refine y_lcmp 127 Y dX6_whole_127 (fun c => ?_) (fun c => ?_) (fun c => ?_)
        · replace h := h.1 c
          refine y_if 128 146 Y dX6_whole_128 rfl rfl (fun _ => ?_) (fun c => absurd (show ((-1) : Int) < 0 by decide) c)
          refine y_iconst 146 Y dX6_whole_146 rfl ?_
          exact y_iret 147 Y dX6_whole_147 rfl h
        · replace h := h.2.1 c
          refine y_if 128 146 Y dX6_whole_128 rfl rfl (fun c => absurd c (show ¬ ((0 : Int) < 0) by decide)) (fun _ => ?_)
          refine y_lload 131 Y dX6_whole_131 rfl ?_
          refine y_ldc2_w 133 Y dX6_whole_133 rfl ?_
          refine y_lcmp 136 Y dX6_whole_136 (fun c => ?_) (fun c => ?_) (fun c => ?_)
          · replace h := h.1 c
            refine y_if 137 146 Y dX6_whole_137 rfl rfl (fun c => absurd c (show ¬ ((0 : Int) < (-1)) by decide)) (fun _ => ?_)
            refine y_lload 140 Y dX6_whole_140 rfl ?_
            obtain ⟨o13, h⟩ := h
            refine y_l2i 142 Y dX6_whole_142 o13 ?_
            refine y_goto 143 147 Y dX6_whole_143 rfl rfl ?_
            exact y_iret 147 Y dX6_whole_147 rfl h
          · replace h := h.2.1 c
            refine y_if 137 146 Y dX6_whole_137 rfl rfl (fun c => absurd c (show ¬ ((0 : Int) < 0) by decide)) (fun _ => ?_)
            refine y_lload 140 Y dX6_whole_140 rfl ?_
            obtain ⟨o14, h⟩ := h
            refine y_l2i 142 Y dX6_whole_142 o14 ?_
            refine y_goto 143 147 Y dX6_whole_143 rfl rfl ?_
            exact y_iret 147 Y dX6_whole_147 rfl h
          · replace h := h.2.2 c
            refine y_if 137 146 Y dX6_whole_137 rfl rfl (fun _ => ?_) (fun c => absurd (show (0 : Int) < 1 by decide) c)
            refine y_iconst 146 Y dX6_whole_146 rfl ?_
            exact y_iret 147 Y dX6_whole_147 rfl h
        · replace h := h.2.2 c
          refine y_if 128 146 Y dX6_whole_128 rfl rfl (fun c => absurd c (show ¬ ((1 : Int) < 0) by decide)) (fun _ => ?_)
          refine y_lload 131 Y dX6_whole_131 rfl ?_
          refine y_ldc2_w 133 Y dX6_whole_133 rfl ?_
          refine y_lcmp 136 Y dX6_whole_136 (fun c => ?_) (fun c => ?_) (fun c => ?_)
          · replace h := h.1 c
            refine y_if 137 146 Y dX6_whole_137 rfl rfl (fun c => absurd c (show ¬ ((0 : Int) < (-1)) by decide)) (fun _ => ?_)
            refine y_lload 140 Y dX6_whole_140 rfl ?_
            obtain ⟨o15, h⟩ := h
            refine y_l2i 142 Y dX6_whole_142 o15 ?_
            refine y_goto 143 147 Y dX6_whole_143 rfl rfl ?_
            exact y_iret 147 Y dX6_whole_147 rfl h
          · replace h := h.2.1 c
            refine y_if 137 146 Y dX6_whole_137 rfl rfl (fun c => absurd c (show ¬ ((0 : Int) < 0) by decide)) (fun _ => ?_)
            refine y_lload 140 Y dX6_whole_140 rfl ?_
            obtain ⟨o16, h⟩ := h
            refine y_l2i 142 Y dX6_whole_142 o16 ?_
            refine y_goto 143 147 Y dX6_whole_143 rfl rfl ?_
            exact y_iret 147 Y dX6_whole_147 rfl h
          · replace h := h.2.2 c
            refine y_if 137 146 Y dX6_whole_137 rfl rfl (fun _ => ?_) (fun c => absurd (show (0 : Int) < 1 by decide) c)
            refine y_iconst 146 Y dX6_whole_146 rfl ?_
            exact y_iret 147 Y dX6_whole_147 rfl h
    · replace h := h.2 c
      refine y_iload_n 9 Y dX6_whole_9 rfl ?_
      refine y_i2l 10 Y dX6_whole_10 ?_
      refine y_iload_n 11 Y dX6_whole_11 rfl ?_
      refine y_i2l 12 Y dX6_whole_12 ?_
      obtain ⟨o17, h⟩ := h
      refine y_ladd 13 Y dX6_whole_13 o17 ?_
      refine y_lstore 14 Y [some mt, some (mi a1), some (mi a2), some (mi a3), some (ml (a2 + a3)), none, none] dX6_whole_14 rfl rfl ?_
      refine y_goto 16 124 Y dX6_whole_16 rfl rfl ?_
      refine y_lload 124 Y dX6_whole_124 rfl ?_
      refine y_lconst 126 Y dX6_whole_126 rfl ?_
      refine y_lcmp 127 Y dX6_whole_127 (fun c => ?_) (fun c => ?_) (fun c => ?_)
      · replace h := h.1 c
        refine y_if 128 146 Y dX6_whole_128 rfl rfl (fun _ => ?_) (fun c => absurd (show ((-1) : Int) < 0 by decide) c)
        refine y_iconst 146 Y dX6_whole_146 rfl ?_
        exact y_iret 147 Y dX6_whole_147 rfl h
      · replace h := h.2.1 c
        refine y_if 128 146 Y dX6_whole_128 rfl rfl (fun c => absurd c (show ¬ ((0 : Int) < 0) by decide)) (fun _ => ?_)
        refine y_lload 131 Y dX6_whole_131 rfl ?_
        refine y_ldc2_w 133 Y dX6_whole_133 rfl ?_
        refine y_lcmp 136 Y dX6_whole_136 (fun c => ?_) (fun c => ?_) (fun c => ?_)
        · replace h := h.1 c
          refine y_if 137 146 Y dX6_whole_137 rfl rfl (fun c => absurd c (show ¬ ((0 : Int) < (-1)) by decide)) (fun _ => ?_)
          refine y_lload 140 Y dX6_whole_140 rfl ?_
          obtain ⟨o18, h⟩ := h
          refine y_l2i 142 Y dX6_whole_142 o18 ?_
          refine y_goto 143 147 Y dX6_whole_143 rfl rfl ?_
          exact y_iret 147 Y dX6_whole_147 rfl h
        · replace h := h.2.1 c
          refine y_if 137 146 Y dX6_whole_137 rfl rfl (fun c => absurd c (show ¬ ((0 : Int) < 0) by decide)) (fun _ => ?_)
          refine y_lload 140 Y dX6_whole_140 rfl ?_
          obtain ⟨o19, h⟩ := h
          refine y_l2i 142 Y dX6_whole_142 o19 ?_
          refine y_goto 143 147 Y dX6_whole_143 rfl rfl ?_
          exact y_iret 147 Y dX6_whole_147 rfl h
        · replace h := h.2.2 c
          refine y_if 137 146 Y dX6_whole_137 rfl rfl (fun _ => ?_) (fun c => absurd (show (0 : Int) < 1 by decide) c)
          refine y_iconst 146 Y dX6_whole_146 rfl ?_
          exact y_iret 147 Y dX6_whole_147 rfl h
      · replace h := h.2.2 c
        refine y_if 128 146 Y dX6_whole_128 rfl rfl (fun c => absurd c (show ¬ ((1 : Int) < 0) by decide)) (fun _ => ?_)
        refine y_lload 131 Y dX6_whole_131 rfl ?_
        refine y_ldc2_w 133 Y dX6_whole_133 rfl ?_
        refine y_lcmp 136 Y dX6_whole_136 (fun c => ?_) (fun c => ?_) (fun c => ?_)
        · replace h := h.1 c
          refine y_if 137 146 Y dX6_whole_137 rfl rfl (fun c => absurd c (show ¬ ((0 : Int) < (-1)) by decide)) (fun _ => ?_)
          refine y_lload 140 Y dX6_whole_140 rfl ?_
          obtain ⟨o20, h⟩ := h
          refine y_l2i 142 Y dX6_whole_142 o20 ?_
          refine y_goto 143 147 Y dX6_whole_143 rfl rfl ?_
          exact y_iret 147 Y dX6_whole_147 rfl h
        · replace h := h.2.1 c
          refine y_if 137 146 Y dX6_whole_137 rfl rfl (fun c => absurd c (show ¬ ((0 : Int) < 0) by decide)) (fun _ => ?_)
          refine y_lload 140 Y dX6_whole_140 rfl ?_
          obtain ⟨o21, h⟩ := h
          refine y_l2i 142 Y dX6_whole_142 o21 ?_
          refine y_goto 143 147 Y dX6_whole_143 rfl rfl ?_
          exact y_iret 147 Y dX6_whole_147 rfl h
        · replace h := h.2.2 c
          refine y_if 137 146 Y dX6_whole_137 rfl rfl (fun _ => ?_) (fun c => absurd (show (0 : Int) < 1 by decide) c)
          refine y_iconst 146 Y dX6_whole_146 rfl ?_
          exact y_iret 147 Y dX6_whole_147 rfl h
  · intro n pc L st T hi hS hL P Y Wk hIc
    clear hE
    rcases hi with ⟨rfl, l2, l3, l4, l6, rfl, rfl, hi⟩
    · have h := h96 n l2 l3 l4 l6 T hS (hL 2 _ rfl) (hL 3 _ rfl) (hL 4 _ rfl) (hL 6 _ rfl) hi
      clear hL hi h96
      refine y_iload 96 Y dX6_whole_96 rfl ?_
      refine y_iload_n 98 Y dX6_whole_98 rfl ?_
      refine y_icmp 99 124 Y dX6_whole_99 rfl rfl (fun c => ?_) (fun c => ?_)
      · replace h := h.1 c
        refine y_lload 124 Y dX6_whole_124 rfl ?_
        refine y_lconst 126 Y dX6_whole_126 rfl ?_
        refine y_lcmp 127 Y dX6_whole_127 (fun c => ?_) (fun c => ?_) (fun c => ?_)
        · replace h := h.1 c
          refine y_if 128 146 Y dX6_whole_128 rfl rfl (fun _ => ?_) (fun c => absurd (show ((-1) : Int) < 0 by decide) c)
          refine y_iconst 146 Y dX6_whole_146 rfl ?_
          exact y_iret 147 Y dX6_whole_147 rfl h
        · replace h := h.2.1 c
          refine y_if 128 146 Y dX6_whole_128 rfl rfl (fun c => absurd c (show ¬ ((0 : Int) < 0) by decide)) (fun _ => ?_)
          refine y_lload 131 Y dX6_whole_131 rfl ?_
          refine y_ldc2_w 133 Y dX6_whole_133 rfl ?_
          refine y_lcmp 136 Y dX6_whole_136 (fun c => ?_) (fun c => ?_) (fun c => ?_)
          · replace h := h.1 c
            refine y_if 137 146 Y dX6_whole_137 rfl rfl (fun c => absurd c (show ¬ ((0 : Int) < (-1)) by decide)) (fun _ => ?_)
            refine y_lload 140 Y dX6_whole_140 rfl ?_
            obtain ⟨o1, h⟩ := h
            refine y_l2i 142 Y dX6_whole_142 o1 ?_
            refine y_goto 143 147 Y dX6_whole_143 rfl rfl ?_
            exact y_iret 147 Y dX6_whole_147 rfl h
          · replace h := h.2.1 c
            refine y_if 137 146 Y dX6_whole_137 rfl rfl (fun c => absurd c (show ¬ ((0 : Int) < 0) by decide)) (fun _ => ?_)
            refine y_lload 140 Y dX6_whole_140 rfl ?_
            obtain ⟨o2, h⟩ := h
            refine y_l2i 142 Y dX6_whole_142 o2 ?_
            refine y_goto 143 147 Y dX6_whole_143 rfl rfl ?_
            exact y_iret 147 Y dX6_whole_147 rfl h
          · replace h := h.2.2 c
            refine y_if 137 146 Y dX6_whole_137 rfl rfl (fun _ => ?_) (fun c => absurd (show (0 : Int) < 1 by decide) c)
            refine y_iconst 146 Y dX6_whole_146 rfl ?_
            exact y_iret 147 Y dX6_whole_147 rfl h
        · replace h := h.2.2 c
          refine y_if 128 146 Y dX6_whole_128 rfl rfl (fun c => absurd c (show ¬ ((1 : Int) < 0) by decide)) (fun _ => ?_)
          refine y_lload 131 Y dX6_whole_131 rfl ?_
          refine y_ldc2_w 133 Y dX6_whole_133 rfl ?_
          refine y_lcmp 136 Y dX6_whole_136 (fun c => ?_) (fun c => ?_) (fun c => ?_)
          · replace h := h.1 c
            refine y_if 137 146 Y dX6_whole_137 rfl rfl (fun c => absurd c (show ¬ ((0 : Int) < (-1)) by decide)) (fun _ => ?_)
            refine y_lload 140 Y dX6_whole_140 rfl ?_
            obtain ⟨o3, h⟩ := h
            refine y_l2i 142 Y dX6_whole_142 o3 ?_
            refine y_goto 143 147 Y dX6_whole_143 rfl rfl ?_
            exact y_iret 147 Y dX6_whole_147 rfl h
          · replace h := h.2.1 c
            refine y_if 137 146 Y dX6_whole_137 rfl rfl (fun c => absurd c (show ¬ ((0 : Int) < 0) by decide)) (fun _ => ?_)
            refine y_lload 140 Y dX6_whole_140 rfl ?_
            obtain ⟨o4, h⟩ := h
            refine y_l2i 142 Y dX6_whole_142 o4 ?_
            refine y_goto 143 147 Y dX6_whole_143 rfl rfl ?_
            exact y_iret 147 Y dX6_whole_147 rfl h
          · replace h := h.2.2 c
            refine y_if 137 146 Y dX6_whole_137 rfl rfl (fun _ => ?_) (fun c => absurd (show (0 : Int) < 1 by decide) c)
            refine y_iconst 146 Y dX6_whole_146 rfl ?_
            exact y_iret 147 Y dX6_whole_147 rfl h
      · replace h := h.2 c
        refine y_lload 102 Y dX6_whole_102 rfl ?_
        refine y_ldc2_w 104 Y dX6_whole_104 rfl ?_
        refine y_lcmp 107 Y dX6_whole_107 (fun c => ?_) (fun c => ?_) (fun c => ?_)
        · replace h := h.1 c
          refine y_if 108 124 Y dX6_whole_108 rfl rfl (fun c => absurd c (show ¬ ((0 : Int) < (-1)) by decide)) (fun _ => ?_)
          refine y_lload 111 Y dX6_whole_111 rfl ?_
          refine y_iload_n 113 Y dX6_whole_113 rfl ?_
          refine y_i2l 114 Y dX6_whole_114 ?_
          obtain ⟨o5, h⟩ := h
          refine y_lmul 115 Y dX6_whole_115 o5 ?_
          refine y_lstore 116 Y [some mt, none, some (mi l2), some (mi l3), some (ml (l4 * l2)), none, some (mi l6)] dX6_whole_116 rfl rfl ?_
          obtain ⟨o6, h⟩ := h
          refine y_iinc 118 Y [some mt, none, some (mi l2), some (mi l3), some (ml (l4 * l2)), none, some (mi (l6 + 1))] dX6_whole_118 rfl rfl o6 ?_
          refine y_goto 121 96 Y dX6_whole_121 rfl rfl ?_
          obtain ⟨n1, hn, h⟩ := h
          exact Wk 96 _ [some mt, none, some (mi l2), some (mi l3), some (ml (l4 * l2)), none, some (mi (l6 + 1))] _ _ ⟨rfl, ⟨rfl, ⟨rfl, ⟨rfl, ⟨rfl, trivial⟩⟩⟩⟩⟩ (hIc n1 _ _ _ _ hn ((⟨rfl, _, _, _, _, rfl, rfl, h⟩)))
        · replace h := h.2.1 c
          refine y_if 108 124 Y dX6_whole_108 rfl rfl (fun c => absurd c (show ¬ ((0 : Int) < 0) by decide)) (fun _ => ?_)
          refine y_lload 111 Y dX6_whole_111 rfl ?_
          refine y_iload_n 113 Y dX6_whole_113 rfl ?_
          refine y_i2l 114 Y dX6_whole_114 ?_
          obtain ⟨o7, h⟩ := h
          refine y_lmul 115 Y dX6_whole_115 o7 ?_
          refine y_lstore 116 Y [some mt, none, some (mi l2), some (mi l3), some (ml (l4 * l2)), none, some (mi l6)] dX6_whole_116 rfl rfl ?_
          obtain ⟨o8, h⟩ := h
          refine y_iinc 118 Y [some mt, none, some (mi l2), some (mi l3), some (ml (l4 * l2)), none, some (mi (l6 + 1))] dX6_whole_118 rfl rfl o8 ?_
          refine y_goto 121 96 Y dX6_whole_121 rfl rfl ?_
          obtain ⟨n1, hn, h⟩ := h
          exact Wk 96 _ [some mt, none, some (mi l2), some (mi l3), some (ml (l4 * l2)), none, some (mi (l6 + 1))] _ _ ⟨rfl, ⟨rfl, ⟨rfl, ⟨rfl, ⟨rfl, trivial⟩⟩⟩⟩⟩ (hIc n1 _ _ _ _ hn ((⟨rfl, _, _, _, _, rfl, rfl, h⟩)))
        · replace h := h.2.2 c
          refine y_if 108 124 Y dX6_whole_108 rfl rfl (fun _ => ?_) (fun c => absurd (show (0 : Int) < 1 by decide) c)
          refine y_lload 124 Y dX6_whole_124 rfl ?_
          refine y_lconst 126 Y dX6_whole_126 rfl ?_
          refine y_lcmp 127 Y dX6_whole_127 (fun c => ?_) (fun c => ?_) (fun c => ?_)
          · replace h := h.1 c
            refine y_if 128 146 Y dX6_whole_128 rfl rfl (fun _ => ?_) (fun c => absurd (show ((-1) : Int) < 0 by decide) c)
            refine y_iconst 146 Y dX6_whole_146 rfl ?_
            exact y_iret 147 Y dX6_whole_147 rfl h
          · replace h := h.2.1 c
            refine y_if 128 146 Y dX6_whole_128 rfl rfl (fun c => absurd c (show ¬ ((0 : Int) < 0) by decide)) (fun _ => ?_)
            refine y_lload 131 Y dX6_whole_131 rfl ?_
            refine y_ldc2_w 133 Y dX6_whole_133 rfl ?_
            refine y_lcmp 136 Y dX6_whole_136 (fun c => ?_) (fun c => ?_) (fun c => ?_)
            · replace h := h.1 c
              refine y_if 137 146 Y dX6_whole_137 rfl rfl (fun c => absurd c (show ¬ ((0 : Int) < (-1)) by decide)) (fun _ => ?_)
              refine y_lload 140 Y dX6_whole_140 rfl ?_
              obtain ⟨o9, h⟩ := h
              refine y_l2i 142 Y dX6_whole_142 o9 ?_
              refine y_goto 143 147 Y dX6_whole_143 rfl rfl ?_
              exact y_iret 147 Y dX6_whole_147 rfl h
            · replace h := h.2.1 c
              refine y_if 137 146 Y dX6_whole_137 rfl rfl (fun c => absurd c (show ¬ ((0 : Int) < 0) by decide)) (fun _ => ?_)
              refine y_lload 140 Y dX6_whole_140 rfl ?_
              obtain ⟨o10, h⟩ := h
              refine y_l2i 142 Y dX6_whole_142 o10 ?_
              refine y_goto 143 147 Y dX6_whole_143 rfl rfl ?_
              exact y_iret 147 Y dX6_whole_147 rfl h
            · replace h := h.2.2 c
              refine y_if 137 146 Y dX6_whole_137 rfl rfl (fun _ => ?_) (fun c => absurd (show (0 : Int) < 1 by decide) c)
              refine y_iconst 146 Y dX6_whole_146 rfl ?_
              exact y_iret 147 Y dX6_whole_147 rfl h
          · replace h := h.2.2 c
            refine y_if 128 146 Y dX6_whole_128 rfl rfl (fun c => absurd c (show ¬ ((1 : Int) < 0) by decide)) (fun _ => ?_)
            refine y_lload 131 Y dX6_whole_131 rfl ?_
            refine y_ldc2_w 133 Y dX6_whole_133 rfl ?_
            refine y_lcmp 136 Y dX6_whole_136 (fun c => ?_) (fun c => ?_) (fun c => ?_)
            · replace h := h.1 c
              refine y_if 137 146 Y dX6_whole_137 rfl rfl (fun c => absurd c (show ¬ ((0 : Int) < (-1)) by decide)) (fun _ => ?_)
              refine y_lload 140 Y dX6_whole_140 rfl ?_
              obtain ⟨o11, h⟩ := h
              refine y_l2i 142 Y dX6_whole_142 o11 ?_
              refine y_goto 143 147 Y dX6_whole_143 rfl rfl ?_
              exact y_iret 147 Y dX6_whole_147 rfl h
            · replace h := h.2.1 c
              refine y_if 137 146 Y dX6_whole_137 rfl rfl (fun c => absurd c (show ¬ ((0 : Int) < 0) by decide)) (fun _ => ?_)
              refine y_lload 140 Y dX6_whole_140 rfl ?_
              obtain ⟨o12, h⟩ := h
              refine y_l2i 142 Y dX6_whole_142 o12 ?_
              refine y_goto 143 147 Y dX6_whole_143 rfl rfl ?_
              exact y_iret 147 Y dX6_whole_147 rfl h
            · replace h := h.2.2 c
              refine y_if 137 146 Y dX6_whole_137 rfl rfl (fun _ => ?_) (fun c => absurd (show (0 : Int) < 1 by decide) c)
              refine y_iconst 146 Y dX6_whole_146 rfl ?_
              exact y_iret 147 Y dX6_whole_147 rfl h
set_option maxHeartbeats 4000000 in
theorem of_word {g : mG} {S : mS} {a1 a2 a3 : Int} {Qp : Option mV → mS → Prop}
    (hE : mI S → (-2147483648 ≤ a1 ∧ a1 ≤ 2147483647) → (-2147483648 ≤ a2 ∧ a2 ≤ 2147483647) → (-2147483648 ≤ a3 ∧ a3 ≤ 2147483647) → (0 ≤ (S 25 0)) ∧ ((S 25 0) < 1000) ∧ (-2147483648 ≤ (((S 25 0) + 1) : Int) ∧ ((S 25 0) + 1) ≤ 2147483647) ∧ Qp none (mup (mup (mup (mup (mup (mup S 20 (S 25 0) a1) 21 (S 25 0) a2) 22 (S 25 0) a3) 23 (S 25 0) (-1)) 24 (S 25 0) 0) 25 0 ((S 25 0) + 1)))
    : CX_word g [mt, mi a1, mi a2, mi a3] S Qp := by
  refine cm_y ⟨by decide, rfl⟩ (by simp [mcat]) (by simp) (fun _ _ _ _ _ => False) ?_ ?_
  · intro ha hS P Y Wk hIc
    have h := hE hS (mokI (ha (mi a1) (by simp))) (mokI (ha (mi a2) (by simp))) (mokI (ha (mi a3) (by simp)))
    clear hE ha
    refine y_aload_n 0 Y dX6_word_0 rfl ?_
    refine y_geta 1 Y 20 dX6_word_1 rfl rfl ?_
    refine y_aload_n 4 Y dX6_word_4 rfl ?_
    refine y_getf 5 Y 25 dX6_word_5 rfl rfl (fun _ => ?_)
    refine y_iload_n 8 Y dX6_word_8 rfl ?_
    obtain ⟨o1, h⟩ := h
    obtain ⟨o2, h⟩ := h
    refine y_iast 9 Y dX6_word_9 rfl rfl o1 o2 ?_
    refine y_aload_n 10 Y dX6_word_10 rfl ?_
    refine y_geta 11 Y 21 dX6_word_11 rfl rfl ?_
    refine y_aload_n 14 Y dX6_word_14 rfl ?_
    refine y_getf 15 Y 25 dX6_word_15 rfl rfl (fun _ => ?_)
    refine y_iload_n 18 Y dX6_word_18 rfl ?_
    refine y_iast 19 Y dX6_word_19 rfl rfl o1 o2 ?_
    refine y_aload_n 20 Y dX6_word_20 rfl ?_
    refine y_geta 21 Y 22 dX6_word_21 rfl rfl ?_
    refine y_aload_n 24 Y dX6_word_24 rfl ?_
    refine y_getf 25 Y 25 dX6_word_25 rfl rfl (fun _ => ?_)
    refine y_iload_n 28 Y dX6_word_28 rfl ?_
    refine y_iast 29 Y dX6_word_29 rfl rfl o1 o2 ?_
    refine y_aload_n 30 Y dX6_word_30 rfl ?_
    refine y_geta 31 Y 23 dX6_word_31 rfl rfl ?_
    refine y_aload_n 34 Y dX6_word_34 rfl ?_
    refine y_getf 35 Y 25 dX6_word_35 rfl rfl (fun _ => ?_)
    refine y_iconst 38 Y dX6_word_38 rfl ?_
    refine y_iast 39 Y dX6_word_39 rfl rfl o1 o2 ?_
    refine y_aload_n 40 Y dX6_word_40 rfl ?_
    refine y_geta 41 Y 24 dX6_word_41 rfl rfl ?_
    refine y_aload_n 44 Y dX6_word_44 rfl ?_
    refine y_getf 45 Y 25 dX6_word_45 rfl rfl (fun _ => ?_)
    refine y_iconst 48 Y dX6_word_48 rfl ?_
    refine y_bast 49 Y dX6_word_49 rfl rfl o1 o2 (by decide) ?_
    refine y_aload_n 50 Y dX6_word_50 rfl ?_
    refine y_dup 51 Y dX6_word_51 rfl ?_
    refine y_getf 52 Y 25 dX6_word_52 rfl rfl (fun _ => ?_)
    refine y_iconst 55 Y dX6_word_55 rfl ?_
    obtain ⟨o3, h⟩ := h
    refine y_iadd 56 Y dX6_word_56 o3 ?_
    refine y_putf 57 Y 25 dX6_word_57 rfl rfl (fun q => absurd q (by decide)) ?_
    exact y_ret 60 Y dX6_word_60 rfl h
  · intro n pc L st T hi
    exact hi.elim
set_option maxHeartbeats 4000000 in
theorem of_add {g : mG} {S : mS} {a1 a2 a3 a4 : Int} {Qp : Option mV → mS → Prop}
    (hE : mI S → (-2147483648 ≤ a1 ∧ a1 ≤ 2147483647) → (-2147483648 ≤ a2 ∧ a2 ≤ 2147483647) → (-2147483648 ≤ a3 ∧ a3 ≤ 2147483647) → (-2147483648 ≤ a4 ∧ a4 ≤ 2147483647) → (((S 75 0) = 80) → (-2147483648 ≤ ((mup S 75 0 (-1)) 75 0) ∧ ((mup S 75 0 (-1)) 75 0) ≤ 2147483647 → ((((mup S 75 0 (-1)) 75 0) < 0) → Qp none (mup S 75 0 (-1))) ∧ (¬ (((mup S 75 0 (-1)) 75 0) < 0) → (-2147483648 ≤ ((mup S 75 0 (-1)) 75 0) ∧ ((mup S 75 0 (-1)) 75 0) ≤ 2147483647 → (-2147483648 ≤ (((S 74 0) + ((mup S 75 0 (-1)) 75 0)) : Int) ∧ ((S 74 0) + ((mup S 75 0 (-1)) 75 0)) ≤ 2147483647) ∧ CX_node g [mt, mi ((S 74 0) + ((mup S 75 0 (-1)) 75 0)), mi a1, mi a2, mi a3, mi a4] (mup S 75 0 (-1)) (Qv fun S2 => mI S2 → (-2147483648 ≤ (((S2 75 0) + 1) : Int) ∧ ((S2 75 0) + 1) ≤ 2147483647) ∧ Qp none (mup S2 75 0 ((S2 75 0) + 1))))))) ∧ (¬ ((S 75 0) = 80) → ((a1 ≠ 3) → (((S 75 0) < 0) → Qp none S) ∧ (¬ ((S 75 0) < 0) → (-2147483648 ≤ (((S 74 0) + (S 75 0)) : Int) ∧ ((S 74 0) + (S 75 0)) ≤ 2147483647) ∧ CX_node g [mt, mi ((S 74 0) + (S 75 0)), mi a1, mi a2, mi a3, mi a4] S (Qv fun S5 => mI S5 → (-2147483648 ≤ (((S5 75 0) + 1) : Int) ∧ ((S5 75 0) + 1) ≤ 2147483647) ∧ Qp none (mup S5 75 0 ((S5 75 0) + 1))))) ∧ (¬ (a1 ≠ 3) → ((a2 ≠ (-1)) → (((S 75 0) < 0) → Qp none S) ∧ (¬ ((S 75 0) < 0) → (-2147483648 ≤ (((S 74 0) + (S 75 0)) : Int) ∧ ((S 74 0) + (S 75 0)) ≤ 2147483647) ∧ CX_node g [mt, mi ((S 74 0) + (S 75 0)), mi a1, mi a2, mi a3, mi a4] S (Qv fun S8 => mI S8 → (-2147483648 ≤ (((S8 75 0) + 1) : Int) ∧ ((S8 75 0) + 1) ≤ 2147483647) ∧ Qp none (mup S8 75 0 ((S8 75 0) + 1))))) ∧ (¬ (a2 ≠ (-1)) → (-2147483648 ≤ ((mup S 75 0 (-1)) 75 0) ∧ ((mup S 75 0 (-1)) 75 0) ≤ 2147483647 → ((((mup S 75 0 (-1)) 75 0) < 0) → Qp none (mup S 75 0 (-1))) ∧ (¬ (((mup S 75 0 (-1)) 75 0) < 0) → (-2147483648 ≤ ((mup S 75 0 (-1)) 75 0) ∧ ((mup S 75 0 (-1)) 75 0) ≤ 2147483647 → (-2147483648 ≤ (((S 74 0) + ((mup S 75 0 (-1)) 75 0)) : Int) ∧ ((S 74 0) + ((mup S 75 0 (-1)) 75 0)) ≤ 2147483647) ∧ CX_node g [mt, mi ((S 74 0) + ((mup S 75 0 (-1)) 75 0)), mi a1, mi a2, mi a3, mi a4] (mup S 75 0 (-1)) (Qv fun S11 => mI S11 → (-2147483648 ≤ (((S11 75 0) + 1) : Int) ∧ ((S11 75 0) + 1) ≤ 2147483647) ∧ Qp none (mup S11 75 0 ((S11 75 0) + 1))))))))))
    : CX_add g [mt, mi a1, mi a2, mi a3, mi a4] S Qp := by
  refine cm_y ⟨by decide, rfl⟩ (by simp [mcat]) (by simp) (fun _ _ _ _ _ => False) ?_ ?_
  · intro ha hS P Y Wk hIc
    have h := hE hS (mokI (ha (mi a1) (by simp))) (mokI (ha (mi a2) (by simp))) (mokI (ha (mi a3) (by simp))) (mokI (ha (mi a4) (by simp)))
    clear hE ha
    refine y_aload_n 0 Y dX6_add_0 rfl ?_
    refine y_getf 1 Y 75 dX6_add_1 rfl rfl (fun _ => ?_)
    refine y_bipush 4 Y dX6_add_4 rfl ?_
    refine y_icmp 6 19 Y dX6_add_6 rfl rfl (fun c => ?_) (fun c => ?_)
    · replace h := h.1 c
      refine y_aload_n 19 Y dX6_add_19 rfl ?_
      refine y_iconst 20 Y dX6_add_20 rfl ?_
      refine y_putf 21 Y 75 dX6_add_21 rfl rfl (fun q => absurd q (by decide)) ?_
      refine y_aload_n 24 Y dX6_add_24 rfl ?_
      refine y_getf 25 Y 75 dX6_add_25 rfl rfl (fun q => ?_)
      replace h := h q
      refine y_if 28 59 Y dX6_add_28 rfl rfl (fun c => ?_) (fun c => ?_)
      · replace h := h.1 c
        exact y_ret 59 Y dX6_add_59 rfl h
      · replace h := h.2 c
        refine y_aload_n 31 Y dX6_add_31 rfl ?_
        refine y_aload_n 32 Y dX6_add_32 rfl ?_
        refine y_getf 33 Y 74 dX6_add_33 rfl rfl (fun _ => ?_)
        refine y_aload_n 36 Y dX6_add_36 rfl ?_
        refine y_getf 37 Y 75 dX6_add_37 rfl rfl (fun q => ?_)
        replace h := h q
        obtain ⟨o1, h⟩ := h
        refine y_iadd 40 Y dX6_add_40 o1 ?_
        refine y_iload_n 41 Y dX6_add_41 rfl ?_
        refine y_iload_n 42 Y dX6_add_42 rfl ?_
        refine y_iload_n 43 Y dX6_add_43 rfl ?_
        refine y_iload 44 Y dX6_add_44 rfl ?_
        refine y_call 46 Y (as := [mi ((S 74 0) + ((mup S 75 0 (-1)) 75 0)), mi a1, mi a2, mi a3, mi a4]) [] dX6_add_46 rfl rfl rfl rfl rfl h (fun r S2 hq hI _ => ?_)
        obtain ⟨rfl, h⟩ := Qv_ok hq
        replace h := h hI
        clear hq
        refine y_aload_n 49 Y dX6_add_49 rfl ?_
        refine y_dup 50 Y dX6_add_50 rfl ?_
        refine y_getf 51 Y 75 dX6_add_51 rfl rfl (fun _ => ?_)
        refine y_iconst 54 Y dX6_add_54 rfl ?_
        obtain ⟨o3, h⟩ := h
        refine y_iadd 55 Y dX6_add_55 o3 ?_
        refine y_putf 56 Y 75 dX6_add_56 rfl rfl (fun q => absurd q (by decide)) ?_
        exact y_ret 59 Y dX6_add_59 rfl h
    · replace h := h.2 c
      refine y_iload_n 9 Y dX6_add_9 rfl ?_
      refine y_iconst 10 Y dX6_add_10 rfl ?_
      refine y_icmp 11 24 Y dX6_add_11 rfl rfl (fun c => ?_) (fun c => ?_)
      · replace h := h.1 c
        refine y_aload_n 24 Y dX6_add_24 rfl ?_
        refine y_getf 25 Y 75 dX6_add_25 rfl rfl (fun _ => ?_)
        refine y_if 28 59 Y dX6_add_28 rfl rfl (fun c => ?_) (fun c => ?_)
        · replace h := h.1 c
          exact y_ret 59 Y dX6_add_59 rfl h
        · replace h := h.2 c
          refine y_aload_n 31 Y dX6_add_31 rfl ?_
          refine y_aload_n 32 Y dX6_add_32 rfl ?_
          refine y_getf 33 Y 74 dX6_add_33 rfl rfl (fun _ => ?_)
          refine y_aload_n 36 Y dX6_add_36 rfl ?_
          refine y_getf 37 Y 75 dX6_add_37 rfl rfl (fun _ => ?_)
          obtain ⟨o4, h⟩ := h
          refine y_iadd 40 Y dX6_add_40 o4 ?_
          refine y_iload_n 41 Y dX6_add_41 rfl ?_
          refine y_iload_n 42 Y dX6_add_42 rfl ?_
          refine y_iload_n 43 Y dX6_add_43 rfl ?_
          refine y_iload 44 Y dX6_add_44 rfl ?_
          refine y_call 46 Y (as := [mi ((S 74 0) + (S 75 0)), mi a1, mi a2, mi a3, mi a4]) [] dX6_add_46 rfl rfl rfl rfl rfl h (fun r S5 hq hI _ => ?_)
          obtain ⟨rfl, h⟩ := Qv_ok hq
          replace h := h hI
          clear hq
          refine y_aload_n 49 Y dX6_add_49 rfl ?_
          refine y_dup 50 Y dX6_add_50 rfl ?_
          refine y_getf 51 Y 75 dX6_add_51 rfl rfl (fun _ => ?_)
          refine y_iconst 54 Y dX6_add_54 rfl ?_
          obtain ⟨o6, h⟩ := h
          refine y_iadd 55 Y dX6_add_55 o6 ?_
          refine y_putf 56 Y 75 dX6_add_56 rfl rfl (fun q => absurd q (by decide)) ?_
          exact y_ret 59 Y dX6_add_59 rfl h
      · replace h := h.2 c
        refine y_iload_n 14 Y dX6_add_14 rfl ?_
        refine y_iconst 15 Y dX6_add_15 rfl ?_
        refine y_icmp 16 24 Y dX6_add_16 rfl rfl (fun c => ?_) (fun c => ?_)
        · replace h := h.1 c
          refine y_aload_n 24 Y dX6_add_24 rfl ?_
          refine y_getf 25 Y 75 dX6_add_25 rfl rfl (fun _ => ?_)
          refine y_if 28 59 Y dX6_add_28 rfl rfl (fun c => ?_) (fun c => ?_)
          · replace h := h.1 c
            exact y_ret 59 Y dX6_add_59 rfl h
          · replace h := h.2 c
            refine y_aload_n 31 Y dX6_add_31 rfl ?_
            refine y_aload_n 32 Y dX6_add_32 rfl ?_
            refine y_getf 33 Y 74 dX6_add_33 rfl rfl (fun _ => ?_)
            refine y_aload_n 36 Y dX6_add_36 rfl ?_
            refine y_getf 37 Y 75 dX6_add_37 rfl rfl (fun _ => ?_)
            obtain ⟨o7, h⟩ := h
            refine y_iadd 40 Y dX6_add_40 o7 ?_
            refine y_iload_n 41 Y dX6_add_41 rfl ?_
            refine y_iload_n 42 Y dX6_add_42 rfl ?_
            refine y_iload_n 43 Y dX6_add_43 rfl ?_
            refine y_iload 44 Y dX6_add_44 rfl ?_
            refine y_call 46 Y (as := [mi ((S 74 0) + (S 75 0)), mi a1, mi a2, mi a3, mi a4]) [] dX6_add_46 rfl rfl rfl rfl rfl h (fun r S8 hq hI _ => ?_)
            obtain ⟨rfl, h⟩ := Qv_ok hq
            replace h := h hI
            clear hq
            refine y_aload_n 49 Y dX6_add_49 rfl ?_
            refine y_dup 50 Y dX6_add_50 rfl ?_
            refine y_getf 51 Y 75 dX6_add_51 rfl rfl (fun _ => ?_)
            refine y_iconst 54 Y dX6_add_54 rfl ?_
            obtain ⟨o9, h⟩ := h
            refine y_iadd 55 Y dX6_add_55 o9 ?_
            refine y_putf 56 Y 75 dX6_add_56 rfl rfl (fun q => absurd q (by decide)) ?_
            exact y_ret 59 Y dX6_add_59 rfl h
        · replace h := h.2 c
          refine y_aload_n 19 Y dX6_add_19 rfl ?_
          refine y_iconst 20 Y dX6_add_20 rfl ?_
          refine y_putf 21 Y 75 dX6_add_21 rfl rfl (fun q => absurd q (by decide)) ?_
          refine y_aload_n 24 Y dX6_add_24 rfl ?_
          refine y_getf 25 Y 75 dX6_add_25 rfl rfl (fun q => ?_)
          replace h := h q
          refine y_if 28 59 Y dX6_add_28 rfl rfl (fun c => ?_) (fun c => ?_)
          · replace h := h.1 c
            exact y_ret 59 Y dX6_add_59 rfl h
          · replace h := h.2 c
            refine y_aload_n 31 Y dX6_add_31 rfl ?_
            refine y_aload_n 32 Y dX6_add_32 rfl ?_
            refine y_getf 33 Y 74 dX6_add_33 rfl rfl (fun _ => ?_)
            refine y_aload_n 36 Y dX6_add_36 rfl ?_
            refine y_getf 37 Y 75 dX6_add_37 rfl rfl (fun q => ?_)
            replace h := h q
            obtain ⟨o10, h⟩ := h
            refine y_iadd 40 Y dX6_add_40 o10 ?_
            refine y_iload_n 41 Y dX6_add_41 rfl ?_
            refine y_iload_n 42 Y dX6_add_42 rfl ?_
            refine y_iload_n 43 Y dX6_add_43 rfl ?_
            refine y_iload 44 Y dX6_add_44 rfl ?_
            refine y_call 46 Y (as := [mi ((S 74 0) + ((mup S 75 0 (-1)) 75 0)), mi a1, mi a2, mi a3, mi a4]) [] dX6_add_46 rfl rfl rfl rfl rfl h (fun r S11 hq hI _ => ?_)
            obtain ⟨rfl, h⟩ := Qv_ok hq
            replace h := h hI
            clear hq
            refine y_aload_n 49 Y dX6_add_49 rfl ?_
            refine y_dup 50 Y dX6_add_50 rfl ?_
            refine y_getf 51 Y 75 dX6_add_51 rfl rfl (fun _ => ?_)
            refine y_iconst 54 Y dX6_add_54 rfl ?_
            obtain ⟨o12, h⟩ := h
            refine y_iadd 55 Y dX6_add_55 o12 ?_
            refine y_putf 56 Y 75 dX6_add_56 rfl rfl (fun q => absurd q (by decide)) ?_
            exact y_ret 59 Y dX6_add_59 rfl h
  · intro n pc L st T hi
    exact hi.elim
set_option maxHeartbeats 4000000 in
theorem of_addNodes {g : mG} {S : mS} {a1 a2 : Int} {Qp : Option mV → mS → Prop}
    (hE : mI S → (-2147483648 ≤ a1 ∧ a1 ≤ 2147483647) → (-2147483648 ≤ a2 ∧ a2 ≤ 2147483647) → ((a2 < 0) → (-2147483648 ≤ ((mup S 75 0 (-1)) 75 0) ∧ ((mup S 75 0 (-1)) 75 0) ≤ 2147483647 → ((((mup S 75 0 (-1)) 75 0) < 0) → Qp none (mup S 75 0 (-1))) ∧ (¬ (((mup S 75 0 (-1)) 75 0) < 0) → (-2147483648 ≤ ((mup S 75 0 (-1)) 75 0) ∧ ((mup S 75 0 (-1)) 75 0) ≤ 2147483647 → (-2147483648 ≤ (((S 74 0) + ((mup S 75 0 (-1)) 75 0)) : Int) ∧ ((S 74 0) + ((mup S 75 0 (-1)) 75 0)) ≤ 2147483647) ∧ CX_copyNodes g [mt, mi ((S 74 0) + ((mup S 75 0 (-1)) 75 0)), mi a1, mi a2] (mup S 75 0 (-1)) (Qv fun S2 => mI S2 → (-2147483648 ≤ (((S2 75 0) + a2) : Int) ∧ ((S2 75 0) + a2) ≤ 2147483647) ∧ Qp none (mup S2 75 0 ((S2 75 0) + a2))))))) ∧ (¬ (a2 < 0) → (-2147483648 ≤ (((S 75 0) + a2) : Int) ∧ ((S 75 0) + a2) ≤ 2147483647) ∧ ((((S 75 0) + a2) ≤ 80) → (((S 75 0) < 0) → Qp none S) ∧ (¬ ((S 75 0) < 0) → (-2147483648 ≤ (((S 74 0) + (S 75 0)) : Int) ∧ ((S 74 0) + (S 75 0)) ≤ 2147483647) ∧ CX_copyNodes g [mt, mi ((S 74 0) + (S 75 0)), mi a1, mi a2] S (Qv fun S6 => mI S6 → (-2147483648 ≤ (((S6 75 0) + a2) : Int) ∧ ((S6 75 0) + a2) ≤ 2147483647) ∧ Qp none (mup S6 75 0 ((S6 75 0) + a2))))) ∧ (¬ (((S 75 0) + a2) ≤ 80) → (-2147483648 ≤ ((mup S 75 0 (-1)) 75 0) ∧ ((mup S 75 0 (-1)) 75 0) ≤ 2147483647 → ((((mup S 75 0 (-1)) 75 0) < 0) → Qp none (mup S 75 0 (-1))) ∧ (¬ (((mup S 75 0 (-1)) 75 0) < 0) → (-2147483648 ≤ ((mup S 75 0 (-1)) 75 0) ∧ ((mup S 75 0 (-1)) 75 0) ≤ 2147483647 → (-2147483648 ≤ (((S 74 0) + ((mup S 75 0 (-1)) 75 0)) : Int) ∧ ((S 74 0) + ((mup S 75 0 (-1)) 75 0)) ≤ 2147483647) ∧ CX_copyNodes g [mt, mi ((S 74 0) + ((mup S 75 0 (-1)) 75 0)), mi a1, mi a2] (mup S 75 0 (-1)) (Qv fun S9 => mI S9 → (-2147483648 ≤ (((S9 75 0) + a2) : Int) ∧ ((S9 75 0) + a2) ≤ 2147483647) ∧ Qp none (mup S9 75 0 ((S9 75 0) + a2)))))))))
    : CX_addNodes g [mt, mi a1, mi a2] S Qp := by
  refine cm_y ⟨by decide, rfl⟩ (by simp [mcat]) (by simp) (fun _ _ _ _ _ => False) ?_ ?_
  · intro ha hS P Y Wk hIc
    have h := hE hS (mokI (ha (mi a1) (by simp))) (mokI (ha (mi a2) (by simp)))
    clear hE ha
    refine y_iload_n 0 Y dX6_addNodes_0 rfl ?_
    refine y_if 1 15 Y dX6_addNodes_1 rfl rfl (fun c => ?_) (fun c => ?_)
    · replace h := h.1 c
      refine y_aload_n 15 Y dX6_addNodes_15 rfl ?_
      refine y_iconst 16 Y dX6_addNodes_16 rfl ?_
      refine y_putf 17 Y 75 dX6_addNodes_17 rfl rfl (fun q => absurd q (by decide)) ?_
      refine y_aload_n 20 Y dX6_addNodes_20 rfl ?_
      refine y_getf 21 Y 75 dX6_addNodes_21 rfl rfl (fun q => ?_)
      replace h := h q
      refine y_if 24 52 Y dX6_addNodes_24 rfl rfl (fun c => ?_) (fun c => ?_)
      · replace h := h.1 c
        exact y_ret 52 Y dX6_addNodes_52 rfl h
      · replace h := h.2 c
        refine y_aload_n 27 Y dX6_addNodes_27 rfl ?_
        refine y_aload_n 28 Y dX6_addNodes_28 rfl ?_
        refine y_getf 29 Y 74 dX6_addNodes_29 rfl rfl (fun _ => ?_)
        refine y_aload_n 32 Y dX6_addNodes_32 rfl ?_
        refine y_getf 33 Y 75 dX6_addNodes_33 rfl rfl (fun q => ?_)
        replace h := h q
        obtain ⟨o1, h⟩ := h
        refine y_iadd 36 Y dX6_addNodes_36 o1 ?_
        refine y_iload_n 37 Y dX6_addNodes_37 rfl ?_
        refine y_iload_n 38 Y dX6_addNodes_38 rfl ?_
        refine y_call 39 Y (as := [mi ((S 74 0) + ((mup S 75 0 (-1)) 75 0)), mi a1, mi a2]) [] dX6_addNodes_39 rfl rfl rfl rfl rfl h (fun r S2 hq hI _ => ?_)
        obtain ⟨rfl, h⟩ := Qv_ok hq
        replace h := h hI
        clear hq
        refine y_aload_n 42 Y dX6_addNodes_42 rfl ?_
        refine y_dup 43 Y dX6_addNodes_43 rfl ?_
        refine y_getf 44 Y 75 dX6_addNodes_44 rfl rfl (fun _ => ?_)
        refine y_iload_n 47 Y dX6_addNodes_47 rfl ?_
        obtain ⟨o3, h⟩ := h
        refine y_iadd 48 Y dX6_addNodes_48 o3 ?_
        refine y_putf 49 Y 75 dX6_addNodes_49 rfl rfl (fun q => absurd q (by decide)) ?_
        exact y_ret 52 Y dX6_addNodes_52 rfl h
    · replace h := h.2 c
      refine y_aload_n 4 Y dX6_addNodes_4 rfl ?_
      refine y_getf 5 Y 75 dX6_addNodes_5 rfl rfl (fun _ => ?_)
      refine y_iload_n 8 Y dX6_addNodes_8 rfl ?_
      obtain ⟨o4, h⟩ := h
      refine y_iadd 9 Y dX6_addNodes_9 o4 ?_
      refine y_bipush 10 Y dX6_addNodes_10 rfl ?_
      refine y_icmp 12 20 Y dX6_addNodes_12 rfl rfl (fun c => ?_) (fun c => ?_)
      · replace h := h.1 c
        refine y_aload_n 20 Y dX6_addNodes_20 rfl ?_
        refine y_getf 21 Y 75 dX6_addNodes_21 rfl rfl (fun _ => ?_)
        refine y_if 24 52 Y dX6_addNodes_24 rfl rfl (fun c => ?_) (fun c => ?_)
        · replace h := h.1 c
          exact y_ret 52 Y dX6_addNodes_52 rfl h
        · replace h := h.2 c
          refine y_aload_n 27 Y dX6_addNodes_27 rfl ?_
          refine y_aload_n 28 Y dX6_addNodes_28 rfl ?_
          refine y_getf 29 Y 74 dX6_addNodes_29 rfl rfl (fun _ => ?_)
          refine y_aload_n 32 Y dX6_addNodes_32 rfl ?_
          refine y_getf 33 Y 75 dX6_addNodes_33 rfl rfl (fun _ => ?_)
          obtain ⟨o5, h⟩ := h
          refine y_iadd 36 Y dX6_addNodes_36 o5 ?_
          refine y_iload_n 37 Y dX6_addNodes_37 rfl ?_
          refine y_iload_n 38 Y dX6_addNodes_38 rfl ?_
          refine y_call 39 Y (as := [mi ((S 74 0) + (S 75 0)), mi a1, mi a2]) [] dX6_addNodes_39 rfl rfl rfl rfl rfl h (fun r S6 hq hI _ => ?_)
          obtain ⟨rfl, h⟩ := Qv_ok hq
          replace h := h hI
          clear hq
          refine y_aload_n 42 Y dX6_addNodes_42 rfl ?_
          refine y_dup 43 Y dX6_addNodes_43 rfl ?_
          refine y_getf 44 Y 75 dX6_addNodes_44 rfl rfl (fun _ => ?_)
          refine y_iload_n 47 Y dX6_addNodes_47 rfl ?_
          obtain ⟨o7, h⟩ := h
          refine y_iadd 48 Y dX6_addNodes_48 o7 ?_
          refine y_putf 49 Y 75 dX6_addNodes_49 rfl rfl (fun q => absurd q (by decide)) ?_
          exact y_ret 52 Y dX6_addNodes_52 rfl h
      · replace h := h.2 c
        refine y_aload_n 15 Y dX6_addNodes_15 rfl ?_
        refine y_iconst 16 Y dX6_addNodes_16 rfl ?_
        refine y_putf 17 Y 75 dX6_addNodes_17 rfl rfl (fun q => absurd q (by decide)) ?_
        refine y_aload_n 20 Y dX6_addNodes_20 rfl ?_
        refine y_getf 21 Y 75 dX6_addNodes_21 rfl rfl (fun q => ?_)
        replace h := h q
        refine y_if 24 52 Y dX6_addNodes_24 rfl rfl (fun c => ?_) (fun c => ?_)
        · replace h := h.1 c
          exact y_ret 52 Y dX6_addNodes_52 rfl h
        · replace h := h.2 c
          refine y_aload_n 27 Y dX6_addNodes_27 rfl ?_
          refine y_aload_n 28 Y dX6_addNodes_28 rfl ?_
          refine y_getf 29 Y 74 dX6_addNodes_29 rfl rfl (fun _ => ?_)
          refine y_aload_n 32 Y dX6_addNodes_32 rfl ?_
          refine y_getf 33 Y 75 dX6_addNodes_33 rfl rfl (fun q => ?_)
          replace h := h q
          obtain ⟨o8, h⟩ := h
          refine y_iadd 36 Y dX6_addNodes_36 o8 ?_
          refine y_iload_n 37 Y dX6_addNodes_37 rfl ?_
          refine y_iload_n 38 Y dX6_addNodes_38 rfl ?_
          refine y_call 39 Y (as := [mi ((S 74 0) + ((mup S 75 0 (-1)) 75 0)), mi a1, mi a2]) [] dX6_addNodes_39 rfl rfl rfl rfl rfl h (fun r S9 hq hI _ => ?_)
          obtain ⟨rfl, h⟩ := Qv_ok hq
          replace h := h hI
          clear hq
          refine y_aload_n 42 Y dX6_addNodes_42 rfl ?_
          refine y_dup 43 Y dX6_addNodes_43 rfl ?_
          refine y_getf 44 Y 75 dX6_addNodes_44 rfl rfl (fun _ => ?_)
          refine y_iload_n 47 Y dX6_addNodes_47 rfl ?_
          obtain ⟨o10, h⟩ := h
          refine y_iadd 48 Y dX6_addNodes_48 o10 ?_
          refine y_putf 49 Y 75 dX6_addNodes_49 rfl rfl (fun q => absurd q (by decide)) ?_
          exact y_ret 52 Y dX6_addNodes_52 rfl h
  · intro n pc L st T hi
    exact hi.elim
set_option maxHeartbeats 4000000 in
theorem of_becomes {g : mG} {S : mS} {a1 a2 : Int} {Qp : Option mV → mS → Prop} (I21 : Nat → Int → Int → mS → Prop)
    (hE : mI S → (-2147483648 ≤ a1 ∧ a1 ≤ 2147483647) → (-2147483648 ≤ a2 ∧ a2 ≤ 2147483647) → (0 ≤ a1) ∧ (a1 < 20300) ∧ CX_node g [mt, mi a1, mi 0, mi a2, mi (-1), mi 0] S (Qv fun S3 => mI S3 → (-2147483648 ≤ ((a1 + 1) : Int) ∧ (a1 + 1) ≤ 2147483647) ∧ (∃ n1, I21 n1 (S 8 a1) (a1 + 1) S3)))
    (h21 : ∀ (n : Nat) (l3 l4 : Int) (T : mS), mI T → (-2147483648 ≤ l3 ∧ l3 ≤ 2147483647) → (-2147483648 ≤ l4 ∧ l4 ≤ 2147483647) → I21 n l3 l4 T → (-2147483648 ≤ ((l4 + l3) : Int) ∧ (l4 + l3) ≤ 2147483647) ∧ (-2147483648 ≤ (((l4 + l3) - 1) : Int) ∧ ((l4 + l3) - 1) ≤ 2147483647) ∧ (-2147483648 ≤ ((13540 + (T 64 0)) : Int) ∧ (13540 + (T 64 0)) ≤ 2147483647) ∧ (((13540 + (T 64 0)) ≤ ((l4 + l3) - 1)) → (-2147483648 ≤ ((l3 - 1) : Int) ∧ (l3 - 1) ≤ 2147483647) ∧ (-2147483648 ≤ (((T 64 0) - (l3 - 1)) : Int) ∧ ((T 64 0) - (l3 - 1)) ≤ 2147483647) ∧ (-2147483648 ≤ ((mup T 64 0 ((T 64 0) - (l3 - 1))) 64 0) ∧ ((mup T 64 0 ((T 64 0) - (l3 - 1))) 64 0) ≤ 2147483647 → CX_span g [mt, mi 13540, mi ((mup T 64 0 ((T 64 0) - (l3 - 1))) 64 0)] (mup T 64 0 ((T 64 0) - (l3 - 1))) (Qv fun S6 => mI S6 → Qp none S6))) ∧ (¬ ((13540 + (T 64 0)) ≤ ((l4 + l3) - 1)) → CX_copyNodes g [mt, mi l4, mi ((l4 + l3) - 1), mi 1] T (Qv fun S7 => mI S7 → (-2147483648 ≤ ((l4 + 1) : Int) ∧ (l4 + 1) ≤ 2147483647) ∧ (∃ n1, n1 < n ∧ I21 n1 l3 (l4 + 1) S7))))
    : CX_becomes g [mt, mi a1, mi a2] S Qp := by
  refine cm_y ⟨by decide, rfl⟩ (by simp [mcat]) (by simp) (fun n pc L st S => (pc = 21 ∧ ∃ (l3 : Int) (l4 : Int), L = [some mt, none, none, some (mi l3), some (mi l4)] ∧ st = [] ∧ I21 n l3 l4 S)) ?_ ?_
  · intro ha hS P Y Wk hIc
    have h := hE hS (mokI (ha (mi a1) (by simp))) (mokI (ha (mi a2) (by simp)))
    clear hE ha h21
    refine y_aload_n 0 Y dX6_becomes_0 rfl ?_
    refine y_geta 1 Y 8 dX6_becomes_1 rfl rfl ?_
    refine y_iload_n 4 Y dX6_becomes_4 rfl ?_
    obtain ⟨o1, h⟩ := h
    obtain ⟨o2, h⟩ := h
    refine y_iald 5 Y dX6_becomes_5 rfl rfl o1 o2 (fun _ => ?_)
    refine y_istore_n 6 Y [some mt, some (mi a1), some (mi a2), some (mi (S 8 a1)), none] dX6_becomes_6 rfl rfl ?_
    refine y_aload_n 7 Y dX6_becomes_7 rfl ?_
    refine y_iload_n 8 Y dX6_becomes_8 rfl ?_
    refine y_iconst 9 Y dX6_becomes_9 rfl ?_
    refine y_iload_n 10 Y dX6_becomes_10 rfl ?_
    refine y_iconst 11 Y dX6_becomes_11 rfl ?_
    refine y_iconst 12 Y dX6_becomes_12 rfl ?_
    refine y_call 13 Y (as := [mi a1, mi 0, mi a2, mi (-1), mi 0]) [] dX6_becomes_13 rfl rfl rfl rfl rfl h (fun r S3 hq hI _ => ?_)
    obtain ⟨rfl, h⟩ := Qv_ok hq
    replace h := h hI
    clear hq
    refine y_iload_n 16 Y dX6_becomes_16 rfl ?_
    refine y_iconst 17 Y dX6_becomes_17 rfl ?_
    obtain ⟨o4, h⟩ := h
    refine y_iadd 18 Y dX6_becomes_18 o4 ?_
    refine y_istore 19 Y [some mt, some (mi a1), some (mi a2), some (mi (S 8 a1)), some (mi (a1 + 1))] dX6_becomes_19 rfl rfl ?_
    obtain ⟨n1, h⟩ := h
    exact Wk 21 _ [some mt, none, none, some (mi (S 8 a1)), some (mi (a1 + 1))] _ _ ⟨rfl, ⟨rfl, ⟨rfl, trivial⟩⟩⟩ (hIc n1 _ _ _ _ ((⟨rfl, _, _, rfl, rfl, h⟩)))
  · intro n pc L st T hi hS hL P Y Wk hIc
    clear hE
    rcases hi with ⟨rfl, l3, l4, rfl, rfl, hi⟩
    · have h := h21 n l3 l4 T hS (hL 3 _ rfl) (hL 4 _ rfl) hi
      clear hL hi h21
      refine y_iload 21 Y dX6_becomes_21 rfl ?_
      refine y_iload_n 23 Y dX6_becomes_23 rfl ?_
      obtain ⟨o1, h⟩ := h
      refine y_iadd 24 Y dX6_becomes_24 o1 ?_
      refine y_iconst 25 Y dX6_becomes_25 rfl ?_
      obtain ⟨o2, h⟩ := h
      refine y_isub 26 Y dX6_becomes_26 o2 ?_
      refine y_sipush 27 Y dX6_becomes_27 rfl ?_
      refine y_aload_n 30 Y dX6_becomes_30 rfl ?_
      refine y_getf 31 Y 64 dX6_becomes_31 rfl rfl (fun _ => ?_)
      obtain ⟨o3, h⟩ := h
      refine y_iadd 34 Y dX6_becomes_34 o3 ?_
      refine y_icmp 35 57 Y dX6_becomes_35 rfl rfl (fun c => ?_) (fun c => ?_)
      · replace h := h.1 c
        refine y_aload_n 57 Y dX6_becomes_57 rfl ?_
        refine y_dup 58 Y dX6_becomes_58 rfl ?_
        refine y_getf 59 Y 64 dX6_becomes_59 rfl rfl (fun _ => ?_)
        refine y_iload_n 62 Y dX6_becomes_62 rfl ?_
        refine y_iconst 63 Y dX6_becomes_63 rfl ?_
        obtain ⟨o4, h⟩ := h
        refine y_isub 64 Y dX6_becomes_64 o4 ?_
        obtain ⟨o5, h⟩ := h
        refine y_isub 65 Y dX6_becomes_65 o5 ?_
        refine y_putf 66 Y 64 dX6_becomes_66 rfl rfl (fun q => absurd q (by decide)) ?_
        refine y_aload_n 69 Y dX6_becomes_69 rfl ?_
        refine y_sipush 70 Y dX6_becomes_70 rfl ?_
        refine y_aload_n 73 Y dX6_becomes_73 rfl ?_
        refine y_getf 74 Y 64 dX6_becomes_74 rfl rfl (fun q => ?_)
        replace h := h q
        refine y_call 77 Y (as := [mi 13540, mi ((mup T 64 0 ((T 64 0) - (l3 - 1))) 64 0)]) [] dX6_becomes_77 rfl rfl rfl rfl rfl h (fun r S6 hq hI _ => ?_)
        obtain ⟨rfl, h⟩ := Qv_ok hq
        replace h := h hI
        clear hq
        exact y_ret 80 Y dX6_becomes_80 rfl h
      · replace h := h.2 c
        refine y_aload_n 38 Y dX6_becomes_38 rfl ?_
        refine y_iload 39 Y dX6_becomes_39 rfl ?_
        refine y_iload 41 Y dX6_becomes_41 rfl ?_
        refine y_iload_n 43 Y dX6_becomes_43 rfl ?_
        refine y_iadd 44 Y dX6_becomes_44 o1 ?_
        refine y_iconst 45 Y dX6_becomes_45 rfl ?_
        refine y_isub 46 Y dX6_becomes_46 o2 ?_
        refine y_iconst 47 Y dX6_becomes_47 rfl ?_
        refine y_call 48 Y (as := [mi l4, mi ((l4 + l3) - 1), mi 1]) [] dX6_becomes_48 rfl rfl rfl rfl rfl h (fun r S7 hq hI _ => ?_)
        obtain ⟨rfl, h⟩ := Qv_ok hq
        replace h := h hI
        clear hq
        obtain ⟨o8, h⟩ := h
        refine y_iinc 51 Y [some mt, none, none, some (mi l3), some (mi (l4 + 1))] dX6_becomes_51 rfl rfl o8 ?_
        refine y_goto 54 21 Y dX6_becomes_54 rfl rfl ?_
        obtain ⟨n1, hn, h⟩ := h
        exact Wk 21 _ [some mt, none, none, some (mi l3), some (mi (l4 + 1))] _ _ ⟨rfl, ⟨rfl, ⟨rfl, trivial⟩⟩⟩ (hIc n1 _ _ _ _ hn ((⟨rfl, _, _, rfl, rfl, h⟩)))
set_option maxHeartbeats 4000000 in
theorem of_becomesInner {g : mG} {S : mS} {a1 a2 : Int} {Qp : Option mV → mS → Prop} (I29 : Nat → Int → Int → Int → mS → Prop)
    (hE : mI S → (-2147483648 ≤ a1 ∧ a1 ≤ 2147483647) → (-2147483648 ≤ a2 ∧ a2 ≤ 2147483647) → (0 ≤ a1) ∧ (a1 < 20300) ∧ (0 ≤ a2) ∧ (a2 < 20300) ∧ CX_copyNodes g [mt, mi a1, mi a2, mi (S 8 a2)] S (Qv fun S5 => mI S5 → (-2147483648 ≤ ((a1 + (S 8 a2)) : Int) ∧ (a1 + (S 8 a2)) ≤ 2147483647) ∧ (∃ n1, I29 n1 (S 8 a1) (S 8 a2) (a1 + (S 8 a2)) S5)))
    (h29 : ∀ (n : Nat) (l3 l4 l5 : Int) (T : mS), mI T → (-2147483648 ≤ l3 ∧ l3 ≤ 2147483647) → (-2147483648 ≤ l4 ∧ l4 ≤ 2147483647) → (-2147483648 ≤ l5 ∧ l5 ≤ 2147483647) → I29 n l3 l4 l5 T → (-2147483648 ≤ ((l5 + l3) : Int) ∧ (l5 + l3) ≤ 2147483647) ∧ (-2147483648 ≤ (((l5 + l3) - l4) : Int) ∧ ((l5 + l3) - l4) ≤ 2147483647) ∧ (-2147483648 ≤ ((13540 + (T 64 0)) : Int) ∧ (13540 + (T 64 0)) ≤ 2147483647) ∧ (((13540 + (T 64 0)) ≤ ((l5 + l3) - l4)) → (-2147483648 ≤ ((l3 - l4) : Int) ∧ (l3 - l4) ≤ 2147483647) ∧ (-2147483648 ≤ (((T 64 0) - (l3 - l4)) : Int) ∧ ((T 64 0) - (l3 - l4)) ≤ 2147483647) ∧ (-2147483648 ≤ ((mup T 64 0 ((T 64 0) - (l3 - l4))) 64 0) ∧ ((mup T 64 0 ((T 64 0) - (l3 - l4))) 64 0) ≤ 2147483647 → CX_span g [mt, mi 13540, mi ((mup T 64 0 ((T 64 0) - (l3 - l4))) 64 0)] (mup T 64 0 ((T 64 0) - (l3 - l4))) (Qv fun S6 => mI S6 → Qp none S6))) ∧ (¬ ((13540 + (T 64 0)) ≤ ((l5 + l3) - l4)) → CX_copyNodes g [mt, mi l5, mi ((l5 + l3) - l4), mi 1] T (Qv fun S7 => mI S7 → (-2147483648 ≤ ((l5 + 1) : Int) ∧ (l5 + 1) ≤ 2147483647) ∧ (∃ n1, n1 < n ∧ I29 n1 l3 l4 (l5 + 1) S7))))
    : CX_becomesInner g [mt, mi a1, mi a2] S Qp := by
  refine cm_y ⟨by decide, rfl⟩ (by simp [mcat]) (by simp) (fun n pc L st S => (pc = 29 ∧ ∃ (l3 : Int) (l4 : Int) (l5 : Int), L = [some mt, none, none, some (mi l3), some (mi l4), some (mi l5)] ∧ st = [] ∧ I29 n l3 l4 l5 S)) ?_ ?_
  · intro ha hS P Y Wk hIc
    have h := hE hS (mokI (ha (mi a1) (by simp))) (mokI (ha (mi a2) (by simp)))
    clear hE ha h29
    refine y_aload_n 0 Y dX6_becomesInner_0 rfl ?_
    refine y_geta 1 Y 8 dX6_becomesInner_1 rfl rfl ?_
    refine y_iload_n 4 Y dX6_becomesInner_4 rfl ?_
    obtain ⟨o1, h⟩ := h
    obtain ⟨o2, h⟩ := h
    refine y_iald 5 Y dX6_becomesInner_5 rfl rfl o1 o2 (fun _ => ?_)
    refine y_istore_n 6 Y [some mt, some (mi a1), some (mi a2), some (mi (S 8 a1)), none, none] dX6_becomesInner_6 rfl rfl ?_
    refine y_aload_n 7 Y dX6_becomesInner_7 rfl ?_
    refine y_geta 8 Y 8 dX6_becomesInner_8 rfl rfl ?_
    refine y_iload_n 11 Y dX6_becomesInner_11 rfl ?_
    obtain ⟨o3, h⟩ := h
    obtain ⟨o4, h⟩ := h
    refine y_iald 12 Y dX6_becomesInner_12 rfl rfl o3 o4 (fun _ => ?_)
    refine y_istore 13 Y [some mt, some (mi a1), some (mi a2), some (mi (S 8 a1)), some (mi (S 8 a2)), none] dX6_becomesInner_13 rfl rfl ?_
    refine y_aload_n 15 Y dX6_becomesInner_15 rfl ?_
    refine y_iload_n 16 Y dX6_becomesInner_16 rfl ?_
    refine y_iload_n 17 Y dX6_becomesInner_17 rfl ?_
    refine y_iload 18 Y dX6_becomesInner_18 rfl ?_
    refine y_call 20 Y (as := [mi a1, mi a2, mi (S 8 a2)]) [] dX6_becomesInner_20 rfl rfl rfl rfl rfl h (fun r S5 hq hI _ => ?_)
    obtain ⟨rfl, h⟩ := Qv_ok hq
    replace h := h hI
    clear hq
    refine y_iload_n 23 Y dX6_becomesInner_23 rfl ?_
    refine y_iload 24 Y dX6_becomesInner_24 rfl ?_
    obtain ⟨o6, h⟩ := h
    refine y_iadd 26 Y dX6_becomesInner_26 o6 ?_
    refine y_istore 27 Y [some mt, some (mi a1), some (mi a2), some (mi (S 8 a1)), some (mi (S 8 a2)), some (mi (a1 + (S 8 a2)))] dX6_becomesInner_27 rfl rfl ?_
    obtain ⟨n1, h⟩ := h
    exact Wk 29 _ [some mt, none, none, some (mi (S 8 a1)), some (mi (S 8 a2)), some (mi (a1 + (S 8 a2)))] _ _ ⟨rfl, ⟨rfl, ⟨rfl, ⟨rfl, trivial⟩⟩⟩⟩ (hIc n1 _ _ _ _ ((⟨rfl, _, _, _, rfl, rfl, h⟩)))
  · intro n pc L st T hi hS hL P Y Wk hIc
    clear hE
    rcases hi with ⟨rfl, l3, l4, l5, rfl, rfl, hi⟩
    · have h := h29 n l3 l4 l5 T hS (hL 3 _ rfl) (hL 4 _ rfl) (hL 5 _ rfl) hi
      clear hL hi h29
      refine y_iload 29 Y dX6_becomesInner_29 rfl ?_
      refine y_iload_n 31 Y dX6_becomesInner_31 rfl ?_
      obtain ⟨o1, h⟩ := h
      refine y_iadd 32 Y dX6_becomesInner_32 o1 ?_
      refine y_iload 33 Y dX6_becomesInner_33 rfl ?_
      obtain ⟨o2, h⟩ := h
      refine y_isub 35 Y dX6_becomesInner_35 o2 ?_
      refine y_sipush 36 Y dX6_becomesInner_36 rfl ?_
      refine y_aload_n 39 Y dX6_becomesInner_39 rfl ?_
      refine y_getf 40 Y 64 dX6_becomesInner_40 rfl rfl (fun _ => ?_)
      obtain ⟨o3, h⟩ := h
      refine y_iadd 43 Y dX6_becomesInner_43 o3 ?_
      refine y_icmp 44 67 Y dX6_becomesInner_44 rfl rfl (fun c => ?_) (fun c => ?_)
      · replace h := h.1 c
        refine y_aload_n 67 Y dX6_becomesInner_67 rfl ?_
        refine y_dup 68 Y dX6_becomesInner_68 rfl ?_
        refine y_getf 69 Y 64 dX6_becomesInner_69 rfl rfl (fun _ => ?_)
        refine y_iload_n 72 Y dX6_becomesInner_72 rfl ?_
        refine y_iload 73 Y dX6_becomesInner_73 rfl ?_
        obtain ⟨o4, h⟩ := h
        refine y_isub 75 Y dX6_becomesInner_75 o4 ?_
        obtain ⟨o5, h⟩ := h
        refine y_isub 76 Y dX6_becomesInner_76 o5 ?_
        refine y_putf 77 Y 64 dX6_becomesInner_77 rfl rfl (fun q => absurd q (by decide)) ?_
        refine y_aload_n 80 Y dX6_becomesInner_80 rfl ?_
        refine y_sipush 81 Y dX6_becomesInner_81 rfl ?_
        refine y_aload_n 84 Y dX6_becomesInner_84 rfl ?_
        refine y_getf 85 Y 64 dX6_becomesInner_85 rfl rfl (fun q => ?_)
        replace h := h q
        refine y_call 88 Y (as := [mi 13540, mi ((mup T 64 0 ((T 64 0) - (l3 - l4))) 64 0)]) [] dX6_becomesInner_88 rfl rfl rfl rfl rfl h (fun r S6 hq hI _ => ?_)
        obtain ⟨rfl, h⟩ := Qv_ok hq
        replace h := h hI
        clear hq
        exact y_ret 91 Y dX6_becomesInner_91 rfl h
      · replace h := h.2 c
        refine y_aload_n 47 Y dX6_becomesInner_47 rfl ?_
        refine y_iload 48 Y dX6_becomesInner_48 rfl ?_
        refine y_iload 50 Y dX6_becomesInner_50 rfl ?_
        refine y_iload_n 52 Y dX6_becomesInner_52 rfl ?_
        refine y_iadd 53 Y dX6_becomesInner_53 o1 ?_
        refine y_iload 54 Y dX6_becomesInner_54 rfl ?_
        refine y_isub 56 Y dX6_becomesInner_56 o2 ?_
        refine y_iconst 57 Y dX6_becomesInner_57 rfl ?_
        refine y_call 58 Y (as := [mi l5, mi ((l5 + l3) - l4), mi 1]) [] dX6_becomesInner_58 rfl rfl rfl rfl rfl h (fun r S7 hq hI _ => ?_)
        obtain ⟨rfl, h⟩ := Qv_ok hq
        replace h := h hI
        clear hq
        obtain ⟨o8, h⟩ := h
        refine y_iinc 61 Y [some mt, none, none, some (mi l3), some (mi l4), some (mi (l5 + 1))] dX6_becomesInner_61 rfl rfl o8 ?_
        refine y_goto 64 29 Y dX6_becomesInner_64 rfl rfl ?_
        obtain ⟨n1, hn, h⟩ := h
        exact Wk 29 _ [some mt, none, none, some (mi l3), some (mi l4), some (mi (l5 + 1))] _ _ ⟨rfl, ⟨rfl, ⟨rfl, ⟨rfl, trivial⟩⟩⟩⟩ (hIc n1 _ _ _ _ hn ((⟨rfl, _, _, _, rfl, rfl, h⟩)))
