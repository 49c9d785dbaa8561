section
set_option maxRecDepth 100000
end

section
set_option maxRecDepth 100000
def cShL : List (Nat × Nat) := [(18, 26), (19, 8), (20, 5), (1, 60032), (21, 21), (9, 8), (9, 8), (10, 3), (10, 3), (3, 1000), (0, 1000), (0, 1000), (0, 1500), (3, 1500), (0, 1501), (0, 30000), (0, 1501), (0, 120000), (0, 1501), (0, 20000), (0, 20000), (0, 1501), (0, 20000), (10, 3), (22, 11), (3, 1000), (0, 1000), (3, 1500), (11, 3), (4, 17), (11, 3), (4, 17), (0, 1000), (2, 16384), (0, 153), (23, 13), (0, 41100), (0, 202), (0, 41100), (0, 302), (0, 1000), (0, 1000), (0, 1000), (12, 3), (2, 16), (12, 3), (2, 16), (24, 13), (0, 1000), (0, 20000), (0, 300), (12, 3), (2, 16), (25, 1), (26, 8), (0, 20000), (0, 20001), (0, 20000), (0, 202), (0, 300), (33, 0), (1, 24000), (1, 24000), (27, 7), (0, 12000), (0, 12000), (0, 12000), (0, 12000), (0, 12000), (0, 12000), (27, 7), (0, 12000), (0, 12000), (0, 12000), (0, 12000), (0, 12000), (0, 12000), (28, 27), (0, 1500), (0, 1500), (0, 1501), (0, 30000), (0, 1500), (0, 1000), (0, 30001), (0, 30001), (0, 30001), (0, 30001), (0, 30001), (0, 1500), (0, 60), (1, 375821), (2, 30001), (2, 30001), (1, 3721), (0, 60), (0, 60), (1, 101), (29, 21), (3, 1500), (0, 1500), (0, 1500), (0, 1500), (0, 1500), (0, 1200), (0, 12000), (0, 12000), (0, 12000), (0, 600), (0, 1000), (30, 19), (0, 20001), (0, 20002), (0, 20060), (0, 20000), (0, 65536), (3, 20000), (3, 20000), (0, 20000), (0, 20001), (0, 20001), (0, 20001), (0, 1500), (0, 1500), (0, 24000), (0, 20001), (2, 20000), (1, 16), (0, 61), (0, 1000), (0, 1000)]
def cRfL : List (Nat × Nat × Nat) := [(512, 0, 513), (512, 1, 514), (512, 2, 516), (512, 3, 536), (512, 4, 547), (512, 5, 559), (512, 6, 566), (512, 7, 572), (512, 10, 573), (512, 12, 574), (512, 14, 575), (512, 15, 582), (512, 16, 589), (512, 17, 610), (512, 18, 622), (512, 19, 636), (512, 20, 637), (512, 21, 638), (512, 22, 639), (512, 23, 640), (512, 24, 641), (512, 25, 642), (514, 0, 515), (514, 4, 513), (516, 0, 517), (516, 1, 518), (516, 2, 519), (516, 3, 520), (516, 5, 521), (516, 6, 522), (516, 7, 523), (516, 9, 524), (516, 10, 525), (516, 11, 526), (516, 12, 527), (516, 13, 528), (516, 14, 529), (516, 15, 530), (516, 16, 531), (516, 17, 532), (516, 18, 533), (516, 19, 534), (516, 20, 535), (536, 0, 516), (536, 1, 537), (536, 2, 538), (536, 3, 539), (536, 4, 540), (536, 5, 542), (536, 6, 544), (536, 8, 545), (536, 9, 546), (547, 0, 516), (547, 1, 548), (547, 2, 549), (547, 4, 550), (547, 5, 551), (547, 7, 552), (547, 9, 553), (547, 10, 554), (547, 11, 555), (547, 12, 557), (555, 0, 556), (557, 0, 558), (559, 0, 514), (559, 1, 516), (559, 2, 536), (559, 3, 547), (559, 4, 565), (559, 5, 560), (559, 7, 561), (559, 8, 562), (559, 10, 563), (563, 0, 564), (565, 0, 536), (566, 0, 516), (566, 2, 567), (566, 3, 568), (566, 4, 569), (566, 6, 570), (566, 7, 571), (575, 0, 576), (575, 1, 577), (575, 2, 578), (575, 3, 579), (575, 4, 580), (575, 5, 581), (582, 0, 583), (582, 1, 584), (582, 2, 585), (582, 3, 586), (582, 4, 587), (582, 5, 588), (589, 0, 516), (589, 1, 590), (589, 2, 591), (589, 3, 592), (589, 4, 593), (589, 5, 594), (589, 8, 595), (589, 10, 596), (589, 11, 597), (589, 12, 598), (589, 13, 599), (589, 14, 600), (589, 15, 601), (589, 17, 602), (589, 20, 603), (589, 21, 604), (589, 22, 605), (589, 23, 606), (589, 24, 607), (589, 25, 608), (589, 26, 609), (610, 0, 516), (610, 1, 589), (610, 2, 575), (610, 3, 611), (610, 5, 612), (610, 7, 613), (610, 8, 614), (610, 9, 615), (610, 13, 617), (610, 14, 618), (610, 15, 619), (610, 16, 620), (610, 18, 621), (622, 0, 516), (622, 2, 623), (622, 3, 624), (622, 4, 625), (622, 6, 626), (622, 7, 627), (622, 9, 628), (622, 10, 629), (622, 11, 630), (622, 12, 631), (622, 14, 632), (622, 15, 633), (622, 16, 634), (622, 18, 635)]
def LyC (R : RW_) : Prop := (∀ k : Nat, k < 131 → R.2.1 (512 + k) = cShL.getD k (7, 0)) ∧ ∀ k : Nat, k < 141 → R.1 (cRfL.getD k (0, 0, 0)).1 (cRfL.getD k (0, 0, 0)).2.1 = some (cRfL.getD k (0, 0, 0)).2.2
set_option maxRecDepth 100000 in
theorem shc512 {R : RW_} (h : LyC R) : R.2.1 512 = (18, 26) := by sorry
set_option maxRecDepth 100000 in
theorem shc513 {R : RW_} (h : LyC R) : R.2.1 513 = (19, 8) := by sorry
set_option maxRecDepth 100000 in
theorem shc514 {R : RW_} (h : LyC R) : R.2.1 514 = (20, 5) := by sorry
set_option maxRecDepth 100000 in
theorem shc515 {R : RW_} (h : LyC R) : R.2.1 515 = (1, 60032) := by sorry
set_option maxRecDepth 100000 in
theorem shc516 {R : RW_} (h : LyC R) : R.2.1 516 = (21, 21) := by sorry
set_option maxRecDepth 100000 in
theorem shc517 {R : RW_} (h : LyC R) : R.2.1 517 = (9, 8) := by sorry
set_option maxRecDepth 100000 in
theorem shc518 {R : RW_} (h : LyC R) : R.2.1 518 = (9, 8) := by sorry
set_option maxRecDepth 100000 in
theorem shc519 {R : RW_} (h : LyC R) : R.2.1 519 = (10, 3) := by sorry
set_option maxRecDepth 100000 in
theorem shc520 {R : RW_} (h : LyC R) : R.2.1 520 = (10, 3) := by sorry
set_option maxRecDepth 100000 in
theorem shc521 {R : RW_} (h : LyC R) : R.2.1 521 = (3, 1000) := by sorry
set_option maxRecDepth 100000 in
theorem shc522 {R : RW_} (h : LyC R) : R.2.1 522 = (0, 1000) := by sorry
set_option maxRecDepth 100000 in
theorem shc523 {R : RW_} (h : LyC R) : R.2.1 523 = (0, 1000) := by sorry
set_option maxRecDepth 100000 in
theorem shc524 {R : RW_} (h : LyC R) : R.2.1 524 = (0, 1500) := by sorry
set_option maxRecDepth 100000 in
theorem shc525 {R : RW_} (h : LyC R) : R.2.1 525 = (3, 1500) := by sorry
set_option maxRecDepth 100000 in
theorem shc526 {R : RW_} (h : LyC R) : R.2.1 526 = (0, 1501) := by sorry
set_option maxRecDepth 100000 in
theorem shc527 {R : RW_} (h : LyC R) : R.2.1 527 = (0, 30000) := by sorry
set_option maxRecDepth 100000 in
theorem shc528 {R : RW_} (h : LyC R) : R.2.1 528 = (0, 1501) := by sorry
set_option maxRecDepth 100000 in
theorem shc529 {R : RW_} (h : LyC R) : R.2.1 529 = (0, 120000) := by sorry
set_option maxRecDepth 100000 in
theorem shc530 {R : RW_} (h : LyC R) : R.2.1 530 = (0, 1501) := by sorry
set_option maxRecDepth 100000 in
theorem shc531 {R : RW_} (h : LyC R) : R.2.1 531 = (0, 20000) := by sorry
set_option maxRecDepth 100000 in
theorem shc532 {R : RW_} (h : LyC R) : R.2.1 532 = (0, 20000) := by sorry
set_option maxRecDepth 100000 in
theorem shc533 {R : RW_} (h : LyC R) : R.2.1 533 = (0, 1501) := by sorry
set_option maxRecDepth 100000 in
theorem shc534 {R : RW_} (h : LyC R) : R.2.1 534 = (0, 20000) := by sorry
set_option maxRecDepth 100000 in
theorem shc535 {R : RW_} (h : LyC R) : R.2.1 535 = (10, 3) := by sorry
set_option maxRecDepth 100000 in
theorem shc536 {R : RW_} (h : LyC R) : R.2.1 536 = (22, 11) := by sorry
set_option maxRecDepth 100000 in
theorem shc537 {R : RW_} (h : LyC R) : R.2.1 537 = (3, 1000) := by sorry
set_option maxRecDepth 100000 in
theorem shc538 {R : RW_} (h : LyC R) : R.2.1 538 = (0, 1000) := by sorry
set_option maxRecDepth 100000 in
theorem shc539 {R : RW_} (h : LyC R) : R.2.1 539 = (3, 1500) := by sorry
set_option maxRecDepth 100000 in
theorem shc540 {R : RW_} (h : LyC R) : R.2.1 540 = (11, 3) := by sorry
set_option maxRecDepth 100000 in
theorem shc541 {R : RW_} (h : LyC R) : R.2.1 541 = (4, 17) := by sorry
set_option maxRecDepth 100000 in
theorem shc542 {R : RW_} (h : LyC R) : R.2.1 542 = (11, 3) := by sorry
set_option maxRecDepth 100000 in
theorem shc543 {R : RW_} (h : LyC R) : R.2.1 543 = (4, 17) := by sorry
set_option maxRecDepth 100000 in
theorem shc544 {R : RW_} (h : LyC R) : R.2.1 544 = (0, 1000) := by sorry
set_option maxRecDepth 100000 in
theorem shc545 {R : RW_} (h : LyC R) : R.2.1 545 = (2, 16384) := by sorry
set_option maxRecDepth 100000 in
theorem shc546 {R : RW_} (h : LyC R) : R.2.1 546 = (0, 153) := by sorry
set_option maxRecDepth 100000 in
theorem shc547 {R : RW_} (h : LyC R) : R.2.1 547 = (23, 13) := by sorry
set_option maxRecDepth 100000 in
theorem shc548 {R : RW_} (h : LyC R) : R.2.1 548 = (0, 41100) := by sorry
set_option maxRecDepth 100000 in
theorem shc549 {R : RW_} (h : LyC R) : R.2.1 549 = (0, 202) := by sorry
set_option maxRecDepth 100000 in
theorem shc550 {R : RW_} (h : LyC R) : R.2.1 550 = (0, 41100) := by sorry
set_option maxRecDepth 100000 in
theorem shc551 {R : RW_} (h : LyC R) : R.2.1 551 = (0, 302) := by sorry
set_option maxRecDepth 100000 in
theorem shc552 {R : RW_} (h : LyC R) : R.2.1 552 = (0, 1000) := by sorry
set_option maxRecDepth 100000 in
theorem shc553 {R : RW_} (h : LyC R) : R.2.1 553 = (0, 1000) := by sorry
set_option maxRecDepth 100000 in
theorem shc554 {R : RW_} (h : LyC R) : R.2.1 554 = (0, 1000) := by sorry
set_option maxRecDepth 100000 in
theorem shc555 {R : RW_} (h : LyC R) : R.2.1 555 = (12, 3) := by sorry
set_option maxRecDepth 100000 in
theorem shc556 {R : RW_} (h : LyC R) : R.2.1 556 = (2, 16) := by sorry
set_option maxRecDepth 100000 in
theorem shc557 {R : RW_} (h : LyC R) : R.2.1 557 = (12, 3) := by sorry
set_option maxRecDepth 100000 in
theorem shc558 {R : RW_} (h : LyC R) : R.2.1 558 = (2, 16) := by sorry
set_option maxRecDepth 100000 in
theorem shc559 {R : RW_} (h : LyC R) : R.2.1 559 = (24, 13) := by sorry
set_option maxRecDepth 100000 in
theorem shc560 {R : RW_} (h : LyC R) : R.2.1 560 = (0, 1000) := by sorry
set_option maxRecDepth 100000 in
theorem shc561 {R : RW_} (h : LyC R) : R.2.1 561 = (0, 20000) := by sorry
set_option maxRecDepth 100000 in
theorem shc562 {R : RW_} (h : LyC R) : R.2.1 562 = (0, 300) := by sorry
set_option maxRecDepth 100000 in
theorem shc563 {R : RW_} (h : LyC R) : R.2.1 563 = (12, 3) := by sorry
set_option maxRecDepth 100000 in
theorem shc564 {R : RW_} (h : LyC R) : R.2.1 564 = (2, 16) := by sorry
set_option maxRecDepth 100000 in
theorem shc565 {R : RW_} (h : LyC R) : R.2.1 565 = (25, 1) := by sorry
set_option maxRecDepth 100000 in
theorem shc566 {R : RW_} (h : LyC R) : R.2.1 566 = (26, 8) := by sorry
set_option maxRecDepth 100000 in
theorem shc567 {R : RW_} (h : LyC R) : R.2.1 567 = (0, 20000) := by sorry
set_option maxRecDepth 100000 in
theorem shc568 {R : RW_} (h : LyC R) : R.2.1 568 = (0, 20001) := by sorry
set_option maxRecDepth 100000 in
theorem shc569 {R : RW_} (h : LyC R) : R.2.1 569 = (0, 20000) := by sorry
set_option maxRecDepth 100000 in
theorem shc570 {R : RW_} (h : LyC R) : R.2.1 570 = (0, 202) := by sorry
set_option maxRecDepth 100000 in
theorem shc571 {R : RW_} (h : LyC R) : R.2.1 571 = (0, 300) := by sorry
set_option maxRecDepth 100000 in
theorem shc572 {R : RW_} (h : LyC R) : R.2.1 572 = (33, 0) := by sorry
set_option maxRecDepth 100000 in
theorem shc573 {R : RW_} (h : LyC R) : R.2.1 573 = (1, 24000) := by sorry
set_option maxRecDepth 100000 in
theorem shc574 {R : RW_} (h : LyC R) : R.2.1 574 = (1, 24000) := by sorry
set_option maxRecDepth 100000 in
theorem shc575 {R : RW_} (h : LyC R) : R.2.1 575 = (27, 7) := by sorry
set_option maxRecDepth 100000 in
theorem shc576 {R : RW_} (h : LyC R) : R.2.1 576 = (0, 12000) := by sorry
set_option maxRecDepth 100000 in
theorem shc577 {R : RW_} (h : LyC R) : R.2.1 577 = (0, 12000) := by sorry
set_option maxRecDepth 100000 in
theorem shc578 {R : RW_} (h : LyC R) : R.2.1 578 = (0, 12000) := by sorry
set_option maxRecDepth 100000 in
theorem shc579 {R : RW_} (h : LyC R) : R.2.1 579 = (0, 12000) := by sorry
set_option maxRecDepth 100000 in
theorem shc580 {R : RW_} (h : LyC R) : R.2.1 580 = (0, 12000) := by sorry
set_option maxRecDepth 100000 in
theorem shc581 {R : RW_} (h : LyC R) : R.2.1 581 = (0, 12000) := by sorry
set_option maxRecDepth 100000 in
theorem shc582 {R : RW_} (h : LyC R) : R.2.1 582 = (27, 7) := by sorry
set_option maxRecDepth 100000 in
theorem shc583 {R : RW_} (h : LyC R) : R.2.1 583 = (0, 12000) := by sorry
set_option maxRecDepth 100000 in
theorem shc584 {R : RW_} (h : LyC R) : R.2.1 584 = (0, 12000) := by sorry
set_option maxRecDepth 100000 in
theorem shc585 {R : RW_} (h : LyC R) : R.2.1 585 = (0, 12000) := by sorry
set_option maxRecDepth 100000 in
theorem shc586 {R : RW_} (h : LyC R) : R.2.1 586 = (0, 12000) := by sorry
set_option maxRecDepth 100000 in
theorem shc587 {R : RW_} (h : LyC R) : R.2.1 587 = (0, 12000) := by sorry
set_option maxRecDepth 100000 in
theorem shc588 {R : RW_} (h : LyC R) : R.2.1 588 = (0, 12000) := by sorry
set_option maxRecDepth 100000 in
theorem shc589 {R : RW_} (h : LyC R) : R.2.1 589 = (28, 27) := by sorry
set_option maxRecDepth 100000 in
theorem shc590 {R : RW_} (h : LyC R) : R.2.1 590 = (0, 1500) := by sorry
set_option maxRecDepth 100000 in
theorem shc591 {R : RW_} (h : LyC R) : R.2.1 591 = (0, 1500) := by sorry
set_option maxRecDepth 100000 in
theorem shc592 {R : RW_} (h : LyC R) : R.2.1 592 = (0, 1501) := by sorry
set_option maxRecDepth 100000 in
theorem shc593 {R : RW_} (h : LyC R) : R.2.1 593 = (0, 30000) := by sorry
set_option maxRecDepth 100000 in
theorem shc594 {R : RW_} (h : LyC R) : R.2.1 594 = (0, 1500) := by sorry
set_option maxRecDepth 100000 in
theorem shc595 {R : RW_} (h : LyC R) : R.2.1 595 = (0, 1000) := by sorry
set_option maxRecDepth 100000 in
theorem shc596 {R : RW_} (h : LyC R) : R.2.1 596 = (0, 30001) := by sorry
set_option maxRecDepth 100000 in
theorem shc597 {R : RW_} (h : LyC R) : R.2.1 597 = (0, 30001) := by sorry
set_option maxRecDepth 100000 in
theorem shc598 {R : RW_} (h : LyC R) : R.2.1 598 = (0, 30001) := by sorry
set_option maxRecDepth 100000 in
theorem shc599 {R : RW_} (h : LyC R) : R.2.1 599 = (0, 30001) := by sorry
set_option maxRecDepth 100000 in
theorem shc600 {R : RW_} (h : LyC R) : R.2.1 600 = (0, 30001) := by sorry
set_option maxRecDepth 100000 in
theorem shc601 {R : RW_} (h : LyC R) : R.2.1 601 = (0, 1500) := by sorry
set_option maxRecDepth 100000 in
theorem shc602 {R : RW_} (h : LyC R) : R.2.1 602 = (0, 60) := by sorry
set_option maxRecDepth 100000 in
theorem shc603 {R : RW_} (h : LyC R) : R.2.1 603 = (1, 375821) := by sorry
set_option maxRecDepth 100000 in
theorem shc604 {R : RW_} (h : LyC R) : R.2.1 604 = (2, 30001) := by sorry
set_option maxRecDepth 100000 in
theorem shc605 {R : RW_} (h : LyC R) : R.2.1 605 = (2, 30001) := by sorry
set_option maxRecDepth 100000 in
theorem shc606 {R : RW_} (h : LyC R) : R.2.1 606 = (1, 3721) := by sorry
set_option maxRecDepth 100000 in
theorem shc607 {R : RW_} (h : LyC R) : R.2.1 607 = (0, 60) := by sorry
set_option maxRecDepth 100000 in
theorem shc608 {R : RW_} (h : LyC R) : R.2.1 608 = (0, 60) := by sorry
set_option maxRecDepth 100000 in
theorem shc609 {R : RW_} (h : LyC R) : R.2.1 609 = (1, 101) := by sorry
set_option maxRecDepth 100000 in
theorem shc610 {R : RW_} (h : LyC R) : R.2.1 610 = (29, 21) := by sorry
set_option maxRecDepth 100000 in
theorem shc611 {R : RW_} (h : LyC R) : R.2.1 611 = (3, 1500) := by sorry
set_option maxRecDepth 100000 in
theorem shc612 {R : RW_} (h : LyC R) : R.2.1 612 = (0, 1500) := by sorry
set_option maxRecDepth 100000 in
theorem shc613 {R : RW_} (h : LyC R) : R.2.1 613 = (0, 1500) := by sorry
set_option maxRecDepth 100000 in
theorem shc614 {R : RW_} (h : LyC R) : R.2.1 614 = (0, 1500) := by sorry
set_option maxRecDepth 100000 in
theorem shc615 {R : RW_} (h : LyC R) : R.2.1 615 = (0, 1500) := by sorry
set_option maxRecDepth 100000 in
theorem shc616 {R : RW_} (h : LyC R) : R.2.1 616 = (0, 1200) := by sorry
set_option maxRecDepth 100000 in
theorem shc617 {R : RW_} (h : LyC R) : R.2.1 617 = (0, 12000) := by sorry
set_option maxRecDepth 100000 in
theorem shc618 {R : RW_} (h : LyC R) : R.2.1 618 = (0, 12000) := by sorry
set_option maxRecDepth 100000 in
theorem shc619 {R : RW_} (h : LyC R) : R.2.1 619 = (0, 12000) := by sorry
set_option maxRecDepth 100000 in
theorem shc620 {R : RW_} (h : LyC R) : R.2.1 620 = (0, 600) := by sorry
set_option maxRecDepth 100000 in
theorem shc621 {R : RW_} (h : LyC R) : R.2.1 621 = (0, 1000) := by sorry
set_option maxRecDepth 100000 in
theorem shc622 {R : RW_} (h : LyC R) : R.2.1 622 = (30, 19) := by sorry
set_option maxRecDepth 100000 in
theorem shc623 {R : RW_} (h : LyC R) : R.2.1 623 = (0, 20001) := by sorry
set_option maxRecDepth 100000 in
theorem shc624 {R : RW_} (h : LyC R) : R.2.1 624 = (0, 20002) := by sorry
set_option maxRecDepth 100000 in
theorem shc625 {R : RW_} (h : LyC R) : R.2.1 625 = (0, 20060) := by sorry
set_option maxRecDepth 100000 in
theorem shc626 {R : RW_} (h : LyC R) : R.2.1 626 = (0, 20000) := by sorry
set_option maxRecDepth 100000 in
theorem shc627 {R : RW_} (h : LyC R) : R.2.1 627 = (0, 65536) := by sorry
set_option maxRecDepth 100000 in
theorem shc628 {R : RW_} (h : LyC R) : R.2.1 628 = (3, 20000) := by sorry
set_option maxRecDepth 100000 in
theorem shc629 {R : RW_} (h : LyC R) : R.2.1 629 = (3, 20000) := by sorry
set_option maxRecDepth 100000 in
theorem shc630 {R : RW_} (h : LyC R) : R.2.1 630 = (0, 20000) := by sorry
set_option maxRecDepth 100000 in
theorem shc631 {R : RW_} (h : LyC R) : R.2.1 631 = (0, 20001) := by sorry
set_option maxRecDepth 100000 in
theorem shc632 {R : RW_} (h : LyC R) : R.2.1 632 = (0, 20001) := by sorry
set_option maxRecDepth 100000 in
theorem shc633 {R : RW_} (h : LyC R) : R.2.1 633 = (0, 20001) := by sorry
set_option maxRecDepth 100000 in
theorem shc634 {R : RW_} (h : LyC R) : R.2.1 634 = (0, 1500) := by sorry
set_option maxRecDepth 100000 in
theorem shc635 {R : RW_} (h : LyC R) : R.2.1 635 = (0, 1500) := by sorry
set_option maxRecDepth 100000 in
theorem shc636 {R : RW_} (h : LyC R) : R.2.1 636 = (0, 24000) := by sorry
set_option maxRecDepth 100000 in
theorem shc637 {R : RW_} (h : LyC R) : R.2.1 637 = (0, 20001) := by sorry
set_option maxRecDepth 100000 in
theorem shc638 {R : RW_} (h : LyC R) : R.2.1 638 = (2, 20000) := by sorry
set_option maxRecDepth 100000 in
theorem shc639 {R : RW_} (h : LyC R) : R.2.1 639 = (1, 16) := by sorry
set_option maxRecDepth 100000 in
theorem shc640 {R : RW_} (h : LyC R) : R.2.1 640 = (0, 61) := by sorry
set_option maxRecDepth 100000 in
theorem shc641 {R : RW_} (h : LyC R) : R.2.1 641 = (0, 1000) := by sorry
set_option maxRecDepth 100000 in
theorem shc642 {R : RW_} (h : LyC R) : R.2.1 642 = (0, 1000) := by sorry
set_option maxRecDepth 100000 in
theorem rfc512_0 {R : RW_} (h : LyC R) : R.1 512 (0 : Nat) = some 513 := by sorry
set_option maxRecDepth 100000 in
theorem rfc512_1 {R : RW_} (h : LyC R) : R.1 512 (1 : Nat) = some 514 := by sorry
set_option maxRecDepth 100000 in
theorem rfc512_2 {R : RW_} (h : LyC R) : R.1 512 (2 : Nat) = some 516 := by sorry
set_option maxRecDepth 100000 in
theorem rfc512_3 {R : RW_} (h : LyC R) : R.1 512 (3 : Nat) = some 536 := by sorry
set_option maxRecDepth 100000 in
theorem rfc512_4 {R : RW_} (h : LyC R) : R.1 512 (4 : Nat) = some 547 := by sorry
set_option maxRecDepth 100000 in
theorem rfc512_5 {R : RW_} (h : LyC R) : R.1 512 (5 : Nat) = some 559 := by sorry
set_option maxRecDepth 100000 in
theorem rfc512_6 {R : RW_} (h : LyC R) : R.1 512 (6 : Nat) = some 566 := by sorry
set_option maxRecDepth 100000 in
theorem rfc512_7 {R : RW_} (h : LyC R) : R.1 512 (7 : Nat) = some 572 := by sorry
set_option maxRecDepth 100000 in
theorem rfc512_10 {R : RW_} (h : LyC R) : R.1 512 (10 : Nat) = some 573 := by sorry
set_option maxRecDepth 100000 in
theorem rfc512_12 {R : RW_} (h : LyC R) : R.1 512 (12 : Nat) = some 574 := by sorry
set_option maxRecDepth 100000 in
theorem rfc512_14 {R : RW_} (h : LyC R) : R.1 512 (14 : Nat) = some 575 := by sorry
set_option maxRecDepth 100000 in
theorem rfc512_15 {R : RW_} (h : LyC R) : R.1 512 (15 : Nat) = some 582 := by sorry
set_option maxRecDepth 100000 in
theorem rfc512_16 {R : RW_} (h : LyC R) : R.1 512 (16 : Nat) = some 589 := by sorry
set_option maxRecDepth 100000 in
theorem rfc512_17 {R : RW_} (h : LyC R) : R.1 512 (17 : Nat) = some 610 := by sorry
set_option maxRecDepth 100000 in
theorem rfc512_18 {R : RW_} (h : LyC R) : R.1 512 (18 : Nat) = some 622 := by sorry
set_option maxRecDepth 100000 in
theorem rfc512_19 {R : RW_} (h : LyC R) : R.1 512 (19 : Nat) = some 636 := by sorry
set_option maxRecDepth 100000 in
theorem rfc512_20 {R : RW_} (h : LyC R) : R.1 512 (20 : Nat) = some 637 := by sorry
set_option maxRecDepth 100000 in
theorem rfc512_21 {R : RW_} (h : LyC R) : R.1 512 (21 : Nat) = some 638 := by sorry
set_option maxRecDepth 100000 in
theorem rfc512_22 {R : RW_} (h : LyC R) : R.1 512 (22 : Nat) = some 639 := by sorry
set_option maxRecDepth 100000 in
theorem rfc512_23 {R : RW_} (h : LyC R) : R.1 512 (23 : Nat) = some 640 := by sorry
set_option maxRecDepth 100000 in
theorem rfc512_24 {R : RW_} (h : LyC R) : R.1 512 (24 : Nat) = some 641 := by sorry
set_option maxRecDepth 100000 in
theorem rfc512_25 {R : RW_} (h : LyC R) : R.1 512 (25 : Nat) = some 642 := by sorry
set_option maxRecDepth 100000 in
theorem rfc514_0 {R : RW_} (h : LyC R) : R.1 514 (0 : Nat) = some 515 := by sorry
set_option maxRecDepth 100000 in
theorem rfc514_4 {R : RW_} (h : LyC R) : R.1 514 (4 : Nat) = some 513 := by sorry
set_option maxRecDepth 100000 in
theorem rfc516_0 {R : RW_} (h : LyC R) : R.1 516 (0 : Nat) = some 517 := by sorry
set_option maxRecDepth 100000 in
theorem rfc516_1 {R : RW_} (h : LyC R) : R.1 516 (1 : Nat) = some 518 := by sorry
set_option maxRecDepth 100000 in
theorem rfc516_2 {R : RW_} (h : LyC R) : R.1 516 (2 : Nat) = some 519 := by sorry
set_option maxRecDepth 100000 in
theorem rfc516_3 {R : RW_} (h : LyC R) : R.1 516 (3 : Nat) = some 520 := by sorry
set_option maxRecDepth 100000 in
theorem rfc516_5 {R : RW_} (h : LyC R) : R.1 516 (5 : Nat) = some 521 := by sorry
set_option maxRecDepth 100000 in
theorem rfc516_6 {R : RW_} (h : LyC R) : R.1 516 (6 : Nat) = some 522 := by sorry
set_option maxRecDepth 100000 in
theorem rfc516_7 {R : RW_} (h : LyC R) : R.1 516 (7 : Nat) = some 523 := by sorry
set_option maxRecDepth 100000 in
theorem rfc516_9 {R : RW_} (h : LyC R) : R.1 516 (9 : Nat) = some 524 := by sorry
set_option maxRecDepth 100000 in
theorem rfc516_10 {R : RW_} (h : LyC R) : R.1 516 (10 : Nat) = some 525 := by sorry
set_option maxRecDepth 100000 in
theorem rfc516_11 {R : RW_} (h : LyC R) : R.1 516 (11 : Nat) = some 526 := by sorry
set_option maxRecDepth 100000 in
theorem rfc516_12 {R : RW_} (h : LyC R) : R.1 516 (12 : Nat) = some 527 := by sorry
set_option maxRecDepth 100000 in
theorem rfc516_13 {R : RW_} (h : LyC R) : R.1 516 (13 : Nat) = some 528 := by sorry
set_option maxRecDepth 100000 in
theorem rfc516_14 {R : RW_} (h : LyC R) : R.1 516 (14 : Nat) = some 529 := by sorry
set_option maxRecDepth 100000 in
theorem rfc516_15 {R : RW_} (h : LyC R) : R.1 516 (15 : Nat) = some 530 := by sorry
set_option maxRecDepth 100000 in
theorem rfc516_16 {R : RW_} (h : LyC R) : R.1 516 (16 : Nat) = some 531 := by sorry
set_option maxRecDepth 100000 in
theorem rfc516_17 {R : RW_} (h : LyC R) : R.1 516 (17 : Nat) = some 532 := by sorry
set_option maxRecDepth 100000 in
theorem rfc516_18 {R : RW_} (h : LyC R) : R.1 516 (18 : Nat) = some 533 := by sorry
set_option maxRecDepth 100000 in
theorem rfc516_19 {R : RW_} (h : LyC R) : R.1 516 (19 : Nat) = some 534 := by sorry
set_option maxRecDepth 100000 in
theorem rfc516_20 {R : RW_} (h : LyC R) : R.1 516 (20 : Nat) = some 535 := by sorry
set_option maxRecDepth 100000 in
theorem rfc536_0 {R : RW_} (h : LyC R) : R.1 536 (0 : Nat) = some 516 := by sorry
set_option maxRecDepth 100000 in
theorem rfc536_1 {R : RW_} (h : LyC R) : R.1 536 (1 : Nat) = some 537 := by sorry
set_option maxRecDepth 100000 in
theorem rfc536_2 {R : RW_} (h : LyC R) : R.1 536 (2 : Nat) = some 538 := by sorry
set_option maxRecDepth 100000 in
theorem rfc536_3 {R : RW_} (h : LyC R) : R.1 536 (3 : Nat) = some 539 := by sorry
set_option maxRecDepth 100000 in
theorem rfc536_4 {R : RW_} (h : LyC R) : R.1 536 (4 : Nat) = some 540 := by sorry
set_option maxRecDepth 100000 in
theorem rfc536_5 {R : RW_} (h : LyC R) : R.1 536 (5 : Nat) = some 542 := by sorry
set_option maxRecDepth 100000 in
theorem rfc536_6 {R : RW_} (h : LyC R) : R.1 536 (6 : Nat) = some 544 := by sorry
set_option maxRecDepth 100000 in
theorem rfc536_8 {R : RW_} (h : LyC R) : R.1 536 (8 : Nat) = some 545 := by sorry
set_option maxRecDepth 100000 in
theorem rfc536_9 {R : RW_} (h : LyC R) : R.1 536 (9 : Nat) = some 546 := by sorry
set_option maxRecDepth 100000 in
theorem rfc547_0 {R : RW_} (h : LyC R) : R.1 547 (0 : Nat) = some 516 := by sorry
set_option maxRecDepth 100000 in
theorem rfc547_1 {R : RW_} (h : LyC R) : R.1 547 (1 : Nat) = some 548 := by sorry
set_option maxRecDepth 100000 in
theorem rfc547_2 {R : RW_} (h : LyC R) : R.1 547 (2 : Nat) = some 549 := by sorry
set_option maxRecDepth 100000 in
theorem rfc547_4 {R : RW_} (h : LyC R) : R.1 547 (4 : Nat) = some 550 := by sorry
set_option maxRecDepth 100000 in
theorem rfc547_5 {R : RW_} (h : LyC R) : R.1 547 (5 : Nat) = some 551 := by sorry
set_option maxRecDepth 100000 in
theorem rfc547_7 {R : RW_} (h : LyC R) : R.1 547 (7 : Nat) = some 552 := by sorry
set_option maxRecDepth 100000 in
theorem rfc547_9 {R : RW_} (h : LyC R) : R.1 547 (9 : Nat) = some 553 := by sorry
set_option maxRecDepth 100000 in
theorem rfc547_10 {R : RW_} (h : LyC R) : R.1 547 (10 : Nat) = some 554 := by sorry
set_option maxRecDepth 100000 in
theorem rfc547_11 {R : RW_} (h : LyC R) : R.1 547 (11 : Nat) = some 555 := by sorry
set_option maxRecDepth 100000 in
theorem rfc547_12 {R : RW_} (h : LyC R) : R.1 547 (12 : Nat) = some 557 := by sorry
set_option maxRecDepth 100000 in
theorem rfc555_0 {R : RW_} (h : LyC R) : R.1 555 (0 : Nat) = some 556 := by sorry
set_option maxRecDepth 100000 in
theorem rfc557_0 {R : RW_} (h : LyC R) : R.1 557 (0 : Nat) = some 558 := by sorry
set_option maxRecDepth 100000 in
theorem rfc559_0 {R : RW_} (h : LyC R) : R.1 559 (0 : Nat) = some 514 := by sorry
set_option maxRecDepth 100000 in
theorem rfc559_1 {R : RW_} (h : LyC R) : R.1 559 (1 : Nat) = some 516 := by sorry
set_option maxRecDepth 100000 in
theorem rfc559_2 {R : RW_} (h : LyC R) : R.1 559 (2 : Nat) = some 536 := by sorry
set_option maxRecDepth 100000 in
theorem rfc559_3 {R : RW_} (h : LyC R) : R.1 559 (3 : Nat) = some 547 := by sorry
set_option maxRecDepth 100000 in
theorem rfc559_4 {R : RW_} (h : LyC R) : R.1 559 (4 : Nat) = some 565 := by sorry
set_option maxRecDepth 100000 in
theorem rfc559_5 {R : RW_} (h : LyC R) : R.1 559 (5 : Nat) = some 560 := by sorry
set_option maxRecDepth 100000 in
theorem rfc559_7 {R : RW_} (h : LyC R) : R.1 559 (7 : Nat) = some 561 := by sorry
set_option maxRecDepth 100000 in
theorem rfc559_8 {R : RW_} (h : LyC R) : R.1 559 (8 : Nat) = some 562 := by sorry
set_option maxRecDepth 100000 in
theorem rfc559_10 {R : RW_} (h : LyC R) : R.1 559 (10 : Nat) = some 563 := by sorry
set_option maxRecDepth 100000 in
theorem rfc563_0 {R : RW_} (h : LyC R) : R.1 563 (0 : Nat) = some 564 := by sorry
set_option maxRecDepth 100000 in
theorem rfc565_0 {R : RW_} (h : LyC R) : R.1 565 (0 : Nat) = some 536 := by sorry
set_option maxRecDepth 100000 in
theorem rfc566_0 {R : RW_} (h : LyC R) : R.1 566 (0 : Nat) = some 516 := by sorry
set_option maxRecDepth 100000 in
theorem rfc566_2 {R : RW_} (h : LyC R) : R.1 566 (2 : Nat) = some 567 := by sorry
set_option maxRecDepth 100000 in
theorem rfc566_3 {R : RW_} (h : LyC R) : R.1 566 (3 : Nat) = some 568 := by sorry
set_option maxRecDepth 100000 in
theorem rfc566_4 {R : RW_} (h : LyC R) : R.1 566 (4 : Nat) = some 569 := by sorry
set_option maxRecDepth 100000 in
theorem rfc566_6 {R : RW_} (h : LyC R) : R.1 566 (6 : Nat) = some 570 := by sorry
set_option maxRecDepth 100000 in
theorem rfc566_7 {R : RW_} (h : LyC R) : R.1 566 (7 : Nat) = some 571 := by sorry
set_option maxRecDepth 100000 in
theorem rfc575_0 {R : RW_} (h : LyC R) : R.1 575 (0 : Nat) = some 576 := by sorry
set_option maxRecDepth 100000 in
theorem rfc575_1 {R : RW_} (h : LyC R) : R.1 575 (1 : Nat) = some 577 := by sorry
set_option maxRecDepth 100000 in
theorem rfc575_2 {R : RW_} (h : LyC R) : R.1 575 (2 : Nat) = some 578 := by sorry
set_option maxRecDepth 100000 in
theorem rfc575_3 {R : RW_} (h : LyC R) : R.1 575 (3 : Nat) = some 579 := by sorry
set_option maxRecDepth 100000 in
theorem rfc575_4 {R : RW_} (h : LyC R) : R.1 575 (4 : Nat) = some 580 := by sorry
set_option maxRecDepth 100000 in
theorem rfc575_5 {R : RW_} (h : LyC R) : R.1 575 (5 : Nat) = some 581 := by sorry
set_option maxRecDepth 100000 in
theorem rfc582_0 {R : RW_} (h : LyC R) : R.1 582 (0 : Nat) = some 583 := by sorry
set_option maxRecDepth 100000 in
theorem rfc582_1 {R : RW_} (h : LyC R) : R.1 582 (1 : Nat) = some 584 := by sorry
set_option maxRecDepth 100000 in
theorem rfc582_2 {R : RW_} (h : LyC R) : R.1 582 (2 : Nat) = some 585 := by sorry
set_option maxRecDepth 100000 in
theorem rfc582_3 {R : RW_} (h : LyC R) : R.1 582 (3 : Nat) = some 586 := by sorry
set_option maxRecDepth 100000 in
theorem rfc582_4 {R : RW_} (h : LyC R) : R.1 582 (4 : Nat) = some 587 := by sorry
set_option maxRecDepth 100000 in
theorem rfc582_5 {R : RW_} (h : LyC R) : R.1 582 (5 : Nat) = some 588 := by sorry
set_option maxRecDepth 100000 in
theorem rfc589_0 {R : RW_} (h : LyC R) : R.1 589 (0 : Nat) = some 516 := by sorry
set_option maxRecDepth 100000 in
theorem rfc589_1 {R : RW_} (h : LyC R) : R.1 589 (1 : Nat) = some 590 := by sorry
set_option maxRecDepth 100000 in
theorem rfc589_2 {R : RW_} (h : LyC R) : R.1 589 (2 : Nat) = some 591 := by sorry
set_option maxRecDepth 100000 in
theorem rfc589_3 {R : RW_} (h : LyC R) : R.1 589 (3 : Nat) = some 592 := by sorry
set_option maxRecDepth 100000 in
theorem rfc589_4 {R : RW_} (h : LyC R) : R.1 589 (4 : Nat) = some 593 := by sorry
set_option maxRecDepth 100000 in
theorem rfc589_5 {R : RW_} (h : LyC R) : R.1 589 (5 : Nat) = some 594 := by sorry
set_option maxRecDepth 100000 in
theorem rfc589_8 {R : RW_} (h : LyC R) : R.1 589 (8 : Nat) = some 595 := by sorry
set_option maxRecDepth 100000 in
theorem rfc589_10 {R : RW_} (h : LyC R) : R.1 589 (10 : Nat) = some 596 := by sorry
set_option maxRecDepth 100000 in
theorem rfc589_11 {R : RW_} (h : LyC R) : R.1 589 (11 : Nat) = some 597 := by sorry
set_option maxRecDepth 100000 in
theorem rfc589_12 {R : RW_} (h : LyC R) : R.1 589 (12 : Nat) = some 598 := by sorry
set_option maxRecDepth 100000 in
theorem rfc589_13 {R : RW_} (h : LyC R) : R.1 589 (13 : Nat) = some 599 := by sorry
set_option maxRecDepth 100000 in
theorem rfc589_14 {R : RW_} (h : LyC R) : R.1 589 (14 : Nat) = some 600 := by sorry
set_option maxRecDepth 100000 in
theorem rfc589_15 {R : RW_} (h : LyC R) : R.1 589 (15 : Nat) = some 601 := by sorry
set_option maxRecDepth 100000 in
theorem rfc589_17 {R : RW_} (h : LyC R) : R.1 589 (17 : Nat) = some 602 := by sorry
set_option maxRecDepth 100000 in
theorem rfc589_20 {R : RW_} (h : LyC R) : R.1 589 (20 : Nat) = some 603 := by sorry
set_option maxRecDepth 100000 in
theorem rfc589_21 {R : RW_} (h : LyC R) : R.1 589 (21 : Nat) = some 604 := by sorry
set_option maxRecDepth 100000 in
theorem rfc589_22 {R : RW_} (h : LyC R) : R.1 589 (22 : Nat) = some 605 := by sorry
set_option maxRecDepth 100000 in
theorem rfc589_23 {R : RW_} (h : LyC R) : R.1 589 (23 : Nat) = some 606 := by sorry
set_option maxRecDepth 100000 in
theorem rfc589_24 {R : RW_} (h : LyC R) : R.1 589 (24 : Nat) = some 607 := by sorry
set_option maxRecDepth 100000 in
theorem rfc589_25 {R : RW_} (h : LyC R) : R.1 589 (25 : Nat) = some 608 := by sorry
set_option maxRecDepth 100000 in
theorem rfc589_26 {R : RW_} (h : LyC R) : R.1 589 (26 : Nat) = some 609 := by sorry
set_option maxRecDepth 100000 in
theorem rfc610_0 {R : RW_} (h : LyC R) : R.1 610 (0 : Nat) = some 516 := by sorry
set_option maxRecDepth 100000 in
theorem rfc610_1 {R : RW_} (h : LyC R) : R.1 610 (1 : Nat) = some 589 := by sorry
set_option maxRecDepth 100000 in
theorem rfc610_2 {R : RW_} (h : LyC R) : R.1 610 (2 : Nat) = some 575 := by sorry
set_option maxRecDepth 100000 in
theorem rfc610_3 {R : RW_} (h : LyC R) : R.1 610 (3 : Nat) = some 611 := by sorry
set_option maxRecDepth 100000 in
theorem rfc610_5 {R : RW_} (h : LyC R) : R.1 610 (5 : Nat) = some 612 := by sorry
set_option maxRecDepth 100000 in
theorem rfc610_7 {R : RW_} (h : LyC R) : R.1 610 (7 : Nat) = some 613 := by sorry
set_option maxRecDepth 100000 in
theorem rfc610_8 {R : RW_} (h : LyC R) : R.1 610 (8 : Nat) = some 614 := by sorry
set_option maxRecDepth 100000 in
theorem rfc610_9 {R : RW_} (h : LyC R) : R.1 610 (9 : Nat) = some 615 := by sorry
set_option maxRecDepth 100000 in
theorem rfc610_13 {R : RW_} (h : LyC R) : R.1 610 (13 : Nat) = some 617 := by sorry
set_option maxRecDepth 100000 in
theorem rfc610_14 {R : RW_} (h : LyC R) : R.1 610 (14 : Nat) = some 618 := by sorry
set_option maxRecDepth 100000 in
theorem rfc610_15 {R : RW_} (h : LyC R) : R.1 610 (15 : Nat) = some 619 := by sorry
set_option maxRecDepth 100000 in
theorem rfc610_16 {R : RW_} (h : LyC R) : R.1 610 (16 : Nat) = some 620 := by sorry
set_option maxRecDepth 100000 in
theorem rfc610_18 {R : RW_} (h : LyC R) : R.1 610 (18 : Nat) = some 621 := by sorry
set_option maxRecDepth 100000 in
theorem rfc622_0 {R : RW_} (h : LyC R) : R.1 622 (0 : Nat) = some 516 := by sorry
set_option maxRecDepth 100000 in
theorem rfc622_2 {R : RW_} (h : LyC R) : R.1 622 (2 : Nat) = some 623 := by sorry
set_option maxRecDepth 100000 in
theorem rfc622_3 {R : RW_} (h : LyC R) : R.1 622 (3 : Nat) = some 624 := by sorry
set_option maxRecDepth 100000 in
theorem rfc622_4 {R : RW_} (h : LyC R) : R.1 622 (4 : Nat) = some 625 := by sorry
set_option maxRecDepth 100000 in
theorem rfc622_6 {R : RW_} (h : LyC R) : R.1 622 (6 : Nat) = some 626 := by sorry
set_option maxRecDepth 100000 in
theorem rfc622_7 {R : RW_} (h : LyC R) : R.1 622 (7 : Nat) = some 627 := by sorry
set_option maxRecDepth 100000 in
theorem rfc622_9 {R : RW_} (h : LyC R) : R.1 622 (9 : Nat) = some 628 := by sorry
set_option maxRecDepth 100000 in
theorem rfc622_10 {R : RW_} (h : LyC R) : R.1 622 (10 : Nat) = some 629 := by sorry
set_option maxRecDepth 100000 in
theorem rfc622_11 {R : RW_} (h : LyC R) : R.1 622 (11 : Nat) = some 630 := by sorry
set_option maxRecDepth 100000 in
theorem rfc622_12 {R : RW_} (h : LyC R) : R.1 622 (12 : Nat) = some 631 := by sorry
set_option maxRecDepth 100000 in
theorem rfc622_14 {R : RW_} (h : LyC R) : R.1 622 (14 : Nat) = some 632 := by sorry
set_option maxRecDepth 100000 in
theorem rfc622_15 {R : RW_} (h : LyC R) : R.1 622 (15 : Nat) = some 633 := by sorry
set_option maxRecDepth 100000 in
theorem rfc622_16 {R : RW_} (h : LyC R) : R.1 622 (16 : Nat) = some 634 := by sorry
set_option maxRecDepth 100000 in
theorem rfc622_18 {R : RW_} (h : LyC R) : R.1 622 (18 : Nat) = some 635 := by sorry
end

section
abbrev cJ10_ensureCapacity : ByteArray := prog_49_method_14_code
def yJ10_ensureCapacity : MethodName := ⟨RJ10, "ensureCapacity", "(I)V"⟩
set_option maxRecDepth 100000 in
theorem q2355 : (Jvm.Cond.methodLink "java/util/BitSet" (139 : Nat) ({ cls := "java/util/BitSet", name := "ensureCapacity", desc := "(I)V" } : Jvm.MethodName)) ∈ lw_all := by sorry
set_option maxRecDepth 100000 in
theorem q2357 : (Jvm.Cond.instanceMethod ({ cls := "java/util/BitSet", name := "ensureCapacity", desc := "(I)V" } : Jvm.MethodName)) ∈ lw_all := by sorry
set_option maxRecDepth 100000 in
theorem q2358 : (Jvm.Cond.code ({ cls := "java/util/BitSet", name := "ensureCapacity", desc := "(I)V" } : Jvm.MethodName) prog_49_method_14_code (3 : Nat) (Option.none : Option Jvm.ClassFile.FieldType)) ∈ lw_all := by sorry
set_option maxRecDepth 100000 in
theorem vJ10_139_J10 : MVc RJ10 139 RJ10 yJ10_ensureCapacity cJ10_ensureCapacity 3 none 1 := by sorry
def ilJ10_ensureCapacity : IL := [(0, 1, 1, .aload_n 0), (1, 4, 3, .getfield 11), (4, 5, 1, .arraylength), (5, 6, 1, .iload_n 1), (6, 9, 3, .if_icmp .ge 32), (9, 10, 1, .iconst 2), (10, 11, 1, .aload_n 0), (11, 14, 3, .getfield 11), (14, 15, 1, .arraylength), (15, 16, 1, .imul), (16, 17, 1, .iload_n 1), (17, 20, 3, .invokestatic 133), (20, 21, 1, .istore_n 2), (21, 22, 1, .aload_n 0), (22, 23, 1, .aload_n 0), (23, 26, 3, .getfield 11), (26, 27, 1, .iload_n 2), (27, 30, 3, .invokestatic 59), (30, 33, 3, .putfield 11), (33, 34, 1, .aload_n 0), (34, 35, 1, .iconst 0), (35, 38, 3, .putfield 24), (38, 39, 1, .return_)]
set_option maxRecDepth 100000 in
theorem dcJ10_ensureCapacity : dchk cJ10_ensureCapacity ilJ10_ensureCapacity = true := by sorry
def kJ10_ensureCapacity_555 (n : Nat) (a1 : Int) (N : NW) : OR :=
  if a1 ≤ 16 then (some (0, N)) else (none)
set_option maxRecDepth 100000 in
theorem tkJ10_ensureCapacity_555 {w : WC} {d : Nat} {R : RW_} (hL : LyC R) {a1 : Int} {n : Nat} {N : NW} {o : Int × NW} (hB : kJ10_ensureCapacity_555 n a1 N = some o) : CT w d yJ10_ensureCapacity cJ10_ensureCapacity 3 (none) [vr (some 555), vi a1] (N, R) 0 0 (fun v hh => v = none ∧ hh = (o.2, R)) := by sorry
def kJ10_ensureCapacity_557 (n : Nat) (a1 : Int) (N : NW) : OR :=
  if a1 ≤ 16 then (some (0, N)) else (none)
set_option maxRecDepth 100000 in
theorem tkJ10_ensureCapacity_557 {w : WC} {d : Nat} {R : RW_} (hL : LyC R) {a1 : Int} {n : Nat} {N : NW} {o : Int × NW} (hB : kJ10_ensureCapacity_557 n a1 N = some o) : CT w d yJ10_ensureCapacity cJ10_ensureCapacity 3 (none) [vr (some 557), vi a1] (N, R) 0 0 (fun v hh => v = none ∧ hh = (o.2, R)) := by sorry
def kJ10_ensureCapacity_563 (n : Nat) (a1 : Int) (N : NW) : OR :=
  if a1 ≤ 16 then (some (0, N)) else (none)
set_option maxRecDepth 100000 in
theorem tkJ10_ensureCapacity_563 {w : WC} {d : Nat} {R : RW_} (hL : LyC R) {a1 : Int} {n : Nat} {N : NW} {o : Int × NW} (hB : kJ10_ensureCapacity_563 n a1 N = some o) : CT w d yJ10_ensureCapacity cJ10_ensureCapacity 3 (none) [vr (some 563), vi a1] (N, R) 0 0 (fun v hh => v = none ∧ hh = (o.2, R)) := by sorry
end

section
set_option maxRecDepth 100000
def ilJ10_checkInvariants : IL := [(0, 3, 3, .getstatic 3), (3, 6, 3, .ifCond .ne 34), (6, 7, 1, .aload_n 0), (7, 10, 3, .getfield 7), (10, 13, 3, .ifCond .eq 27), (13, 14, 1, .aload_n 0), (14, 17, 3, .getfield 11), (17, 18, 1, .aload_n 0), (18, 21, 3, .getfield 7), (21, 22, 1, .iconst 1), (22, 23, 1, .isub), (23, 24, 1, .laload), (24, 25, 1, .lconst 0), (25, 26, 1, .lcmp), (26, 29, 3, .ifCond .ne 11), (29, 32, 3, .new 15), (32, 33, 1, .dup), (33, 36, 3, .invokespecial 17), (36, 37, 1, .athrow), (37, 40, 3, .getstatic 3), (40, 43, 3, .ifCond .ne 30), (43, 44, 1, .aload_n 0), (44, 47, 3, .getfield 7), (47, 50, 3, .ifCond .lt 15), (50, 51, 1, .aload_n 0), (51, 54, 3, .getfield 7), (54, 55, 1, .aload_n 0), (55, 58, 3, .getfield 11), (58, 59, 1, .arraylength), (59, 62, 3, .if_icmp .le 11), (62, 65, 3, .new 15), (65, 66, 1, .dup), (66, 69, 3, .invokespecial 17), (69, 70, 1, .athrow), (70, 73, 3, .getstatic 3), (73, 76, 3, .ifCond .ne 37), (76, 77, 1, .aload_n 0), (77, 80, 3, .getfield 7), (80, 81, 1, .aload_n 0), (81, 84, 3, .getfield 11), (84, 85, 1, .arraylength), (85, 88, 3, .if_icmp .eq 25), (88, 89, 1, .aload_n 0), (89, 92, 3, .getfield 11), (92, 93, 1, .aload_n 0), (93, 96, 3, .getfield 7), (96, 97, 1, .laload), (97, 98, 1, .lconst 0), (98, 99, 1, .lcmp), (99, 102, 3, .ifCond .eq 11), (102, 105, 3, .new 15), (105, 106, 1, .dup), (106, 109, 3, .invokespecial 17), (109, 110, 1, .athrow), (110, 111, 1, .return_)]
def ilJ10_clear : IL := [(0, 1, 1, .aload_n 0), (1, 4, 3, .getfield 7), (4, 7, 3, .ifCond .le 23), (7, 8, 1, .aload_n 0), (8, 11, 3, .getfield 11), (11, 12, 1, .aload_n 0), (12, 13, 1, .dup), (13, 16, 3, .getfield 7), (16, 17, 1, .iconst 1), (17, 18, 1, .isub), (18, 19, 1, .dup_x1), (19, 22, 3, .putfield 7), (22, 23, 1, .lconst 0), (23, 24, 1, .lastore), (24, 27, 3, .goto (-24)), (27, 28, 1, .return_)]
def ilJ10_expandTo : IL := [(0, 1, 1, .iload_n 1), (1, 2, 1, .iconst 1), (2, 3, 1, .iadd), (3, 4, 1, .istore_n 2), (4, 5, 1, .aload_n 0), (5, 8, 3, .getfield 7), (8, 9, 1, .iload_n 2), (9, 12, 3, .if_icmp .ge 13), (12, 13, 1, .aload_n 0), (13, 14, 1, .iload_n 2), (14, 17, 3, .invokevirtual 139), (17, 18, 1, .aload_n 0), (18, 19, 1, .iload_n 2), (19, 22, 3, .putfield 7), (22, 23, 1, .return_)]
def ilJ10_wordIndex : IL := [(0, 1, 1, .iload_n 0), (1, 3, 2, .bipush 6), (3, 4, 1, .ishr), (4, 5, 1, .ireturn)]
def ilJ10_get : IL := [(0, 1, 1, .iload_n 1), (1, 4, 3, .ifCond .ge 30), (4, 7, 3, .new 142), (7, 8, 1, .dup), (8, 11, 3, .new 33), (11, 12, 1, .dup), (12, 15, 3, .invokespecial 35), (15, 17, 2, .ldc 153), (17, 20, 3, .invokevirtual 38), (20, 21, 1, .iload_n 1), (21, 24, 3, .invokevirtual 42), (24, 27, 3, .invokevirtual 45), (27, 30, 3, .invokespecial 146), (30, 31, 1, .athrow), (31, 32, 1, .aload_n 0), (32, 35, 3, .invokevirtual 56), (35, 36, 1, .iload_n 1), (36, 39, 3, .invokestatic 52), (39, 40, 1, .istore_n 2), (40, 41, 1, .iload_n 2), (41, 42, 1, .aload_n 0), (42, 45, 3, .getfield 7), (45, 48, 3, .if_icmp .ge 22), (48, 49, 1, .aload_n 0), (49, 52, 3, .getfield 11), (52, 53, 1, .iload_n 2), (53, 54, 1, .laload), (54, 55, 1, .lconst 1), (55, 56, 1, .iload_n 1), (56, 57, 1, .lshl), (57, 58, 1, .land), (58, 59, 1, .lconst 0), (59, 60, 1, .lcmp), (60, 63, 3, .ifCond .eq 7), (63, 64, 1, .iconst 1), (64, 67, 3, .goto 4), (67, 68, 1, .iconst 0), (68, 69, 1, .ireturn)]
def ilJ10_intersects : IL := [(0, 1, 1, .aload_n 0), (1, 4, 3, .getfield 7), (4, 5, 1, .aload_n 1), (5, 8, 3, .getfield 7), (8, 11, 3, .invokestatic 193), (11, 12, 1, .iconst 1), (12, 13, 1, .isub), (13, 14, 1, .istore_n 2), (14, 15, 1, .iload_n 2), (15, 18, 3, .ifCond .lt 29), (18, 19, 1, .aload_n 0), (19, 22, 3, .getfield 11), (22, 23, 1, .iload_n 2), (23, 24, 1, .laload), (24, 25, 1, .aload_n 1), (25, 28, 3, .getfield 11), (28, 29, 1, .iload_n 2), (29, 30, 1, .laload), (30, 31, 1, .land), (31, 32, 1, .lconst 0), (32, 33, 1, .lcmp), (33, 36, 3, .ifCond .eq 5), (36, 37, 1, .iconst 1), (37, 38, 1, .ireturn), (38, 41, 3, .iinc 2 (-1)), (41, 44, 3, .goto (-27)), (44, 45, 1, .iconst 0), (45, 46, 1, .ireturn)]
def ilJ21_numberOfTrailingZeros : IL := [(0, 1, 1, .iload_n 0), (1, 2, 1, .iconst (-1)), (2, 3, 1, .ixor), (3, 4, 1, .iload_n 0), (4, 5, 1, .iconst 1), (5, 6, 1, .isub), (6, 7, 1, .iand), (7, 8, 1, .istore_n 0), (8, 9, 1, .iload_n 0), (9, 12, 3, .ifCond .gt 8), (12, 13, 1, .iload_n 0), (13, 15, 2, .bipush 32), (15, 16, 1, .iand), (16, 17, 1, .ireturn), (17, 18, 1, .iconst 1), (18, 19, 1, .istore_n 1), (19, 20, 1, .iload_n 0), (20, 23, 3, .ldc_w 264), (23, 26, 3, .if_icmp .le 11), (26, 29, 3, .iinc 1 16), (29, 30, 1, .iload_n 0), (30, 32, 2, .bipush 16), (32, 33, 1, .iushr), (33, 34, 1, .istore_n 0), (34, 35, 1, .iload_n 0), (35, 38, 3, .sipush 256), (38, 41, 3, .if_icmp .le 11), (41, 44, 3, .iinc 1 8), (44, 45, 1, .iload_n 0), (45, 47, 2, .bipush 8), (47, 48, 1, .iushr), (48, 49, 1, .istore_n 0), (49, 50, 1, .iload_n 0), (50, 52, 2, .bipush 16), (52, 55, 3, .if_icmp .le 10), (55, 58, 3, .iinc 1 4), (58, 59, 1, .iload_n 0), (59, 60, 1, .iconst 4), (60, 61, 1, .iushr), (61, 62, 1, .istore_n 0), (62, 63, 1, .iload_n 0), (63, 64, 1, .iconst 4), (64, 67, 3, .if_icmp .le 10), (67, 70, 3, .iinc 1 2), (70, 71, 1, .iload_n 0), (71, 72, 1, .iconst 2), (72, 73, 1, .iushr), (73, 74, 1, .istore_n 0), (74, 75, 1, .iload_n 1), (75, 76, 1, .iload_n 0), (76, 77, 1, .iconst 1), (77, 78, 1, .iushr), (78, 79, 1, .iadd), (79, 80, 1, .ireturn)]
def ilJ23_numberOfTrailingZeros : IL := [(0, 1, 1, .lload_n 0), (1, 2, 1, .l2i), (2, 3, 1, .istore_n 2), (3, 4, 1, .iload_n 2), (4, 7, 3, .ifCond .ne 17), (7, 9, 2, .bipush 32), (9, 10, 1, .lload_n 0), (10, 12, 2, .bipush 32), (12, 13, 1, .lushr), (13, 14, 1, .l2i), (14, 17, 3, .invokestatic 311), (17, 18, 1, .iadd), (18, 21, 3, .goto 7), (21, 22, 1, .iload_n 2), (22, 25, 3, .invokestatic 311), (25, 26, 1, .ireturn)]
def ilJ10_nextSetBit : IL := [(0, 1, 1, .iload_n 1), (1, 4, 3, .ifCond .ge 30), (4, 7, 3, .new 142), (7, 8, 1, .dup), (8, 11, 3, .new 33), (11, 12, 1, .dup), (12, 15, 3, .invokespecial 35), (15, 17, 2, .ldc 144), (17, 20, 3, .invokevirtual 38), (20, 21, 1, .iload_n 1), (21, 24, 3, .invokevirtual 42), (24, 27, 3, .invokevirtual 45), (27, 30, 3, .invokespecial 146), (30, 31, 1, .athrow), (31, 32, 1, .aload_n 0), (32, 35, 3, .invokevirtual 56), (35, 36, 1, .iload_n 1), (36, 39, 3, .invokestatic 52), (39, 40, 1, .istore_n 2), (40, 41, 1, .iload_n 2), (41, 42, 1, .aload_n 0), (42, 45, 3, .getfield 7), (45, 48, 3, .if_icmp .lt 5), (48, 49, 1, .iconst (-1)), (49, 50, 1, .ireturn), (50, 51, 1, .aload_n 0), (51, 54, 3, .getfield 11), (54, 55, 1, .iload_n 2), (55, 56, 1, .laload), (56, 59, 3, .ldc2_w 165), (59, 60, 1, .iload_n 1), (60, 61, 1, .lshl), (61, 62, 1, .land), (62, 63, 1, .lstore_n 3), (63, 64, 1, .lload_n 3), (64, 65, 1, .lconst 0), (65, 66, 1, .lcmp), (66, 69, 3, .ifCond .eq 13), (69, 70, 1, .iload_n 2), (70, 72, 2, .bipush 64), (72, 73, 1, .imul), (73, 74, 1, .lload_n 3), (74, 77, 3, .invokestatic 182), (77, 78, 1, .iadd), (78, 79, 1, .ireturn), (79, 82, 3, .iinc 2 1), (82, 83, 1, .iload_n 2), (83, 84, 1, .aload_n 0), (84, 87, 3, .getfield 7), (87, 90, 3, .if_icmp .ne 5), (90, 91, 1, .iconst (-1)), (91, 92, 1, .ireturn), (92, 93, 1, .aload_n 0), (93, 96, 3, .getfield 11), (96, 97, 1, .iload_n 2), (97, 98, 1, .laload), (98, 99, 1, .lstore_n 3), (99, 102, 3, .goto (-36))]
def ilJ10_set : IL := [(0, 1, 1, .iload_n 1), (1, 4, 3, .ifCond .ge 30), (4, 7, 3, .new 142), (7, 8, 1, .dup), (8, 11, 3, .new 33), (11, 12, 1, .dup), (12, 15, 3, .invokespecial 35), (15, 17, 2, .ldc 153), (17, 20, 3, .invokevirtual 38), (20, 21, 1, .iload_n 1), (21, 24, 3, .invokevirtual 42), (24, 27, 3, .invokevirtual 45), (27, 30, 3, .invokespecial 146), (30, 31, 1, .athrow), (31, 32, 1, .iload_n 1), (32, 35, 3, .invokestatic 52), (35, 36, 1, .istore_n 2), (36, 37, 1, .aload_n 0), (37, 38, 1, .iload_n 2), (38, 41, 3, .invokevirtual 155), (41, 42, 1, .aload_n 0), (42, 45, 3, .getfield 11), (45, 46, 1, .iload_n 2), (46, 47, 1, .dup2), (47, 48, 1, .laload), (48, 49, 1, .lconst 1), (49, 50, 1, .iload_n 1), (50, 51, 1, .lshl), (51, 52, 1, .lor), (52, 53, 1, .lastore), (53, 54, 1, .aload_n 0), (54, 57, 3, .invokevirtual 56), (57, 58, 1, .return_)]
def ilJ7_size : IL := [(0, 1, 1, .aload_n 0), (1, 4, 3, .getfield 48), (4, 5, 1, .ireturn)]
def ilJ9_fill : IL := [(0, 1, 1, .iconst 0), (1, 2, 1, .istore_n 2), (2, 3, 1, .aload_n 0), (3, 4, 1, .arraylength), (4, 5, 1, .istore_n 3), (5, 6, 1, .iload_n 2), (6, 7, 1, .iload_n 3), (7, 10, 3, .if_icmp .ge 13), (10, 11, 1, .aload_n 0), (11, 12, 1, .iload_n 2), (12, 13, 1, .iload_n 1), (13, 14, 1, .iastore), (14, 17, 3, .iinc 2 1), (17, 20, 3, .goto (-12)), (20, 21, 1, .return_)]
def ilJ9_rangeCheck : IL := [(0, 1, 1, .iload_n 1), (1, 2, 1, .iload_n 2), (2, 5, 3, .if_icmp .le 44), (5, 8, 3, .new 43), (8, 9, 1, .dup), (9, 12, 3, .new 45), (12, 13, 1, .dup), (13, 16, 3, .invokespecial 47), (16, 18, 2, .ldc 48), (18, 21, 3, .invokevirtual 50), (21, 22, 1, .iload_n 1), (22, 25, 3, .invokevirtual 54), (25, 27, 2, .ldc 57), (27, 30, 3, .invokevirtual 50), (30, 31, 1, .iload_n 2), (31, 34, 3, .invokevirtual 54), (34, 36, 2, .ldc 59), (36, 39, 3, .invokevirtual 50), (39, 42, 3, .invokevirtual 61), (42, 45, 3, .invokespecial 65), (45, 46, 1, .athrow), (46, 47, 1, .iload_n 1), (47, 50, 3, .ifCond .ge 12), (50, 53, 3, .new 68), (53, 54, 1, .dup), (54, 55, 1, .iload_n 1), (55, 58, 3, .invokespecial 70), (58, 59, 1, .athrow), (59, 60, 1, .iload_n 2), (60, 61, 1, .iload_n 0), (61, 64, 3, .if_icmp .le 12), (64, 67, 3, .new 68), (67, 68, 1, .dup), (68, 69, 1, .iload_n 2), (69, 72, 3, .invokespecial 70), (72, 73, 1, .athrow), (73, 74, 1, .return_)]
def ilJ9_fill_2 : IL := [(0, 1, 1, .aload_n 0), (1, 2, 1, .arraylength), (2, 3, 1, .iload_n 1), (3, 4, 1, .iload_n 2), (4, 7, 3, .invokestatic 13), (7, 8, 1, .iload_n 1), (8, 10, 2, .istore 4), (10, 12, 2, .iload 4), (12, 13, 1, .iload_n 2), (13, 16, 3, .if_icmp .ge 14), (16, 17, 1, .aload_n 0), (17, 19, 2, .iload 4), (19, 20, 1, .iload_n 3), (20, 21, 1, .bastore), (21, 24, 3, .iinc 4 1), (24, 27, 3, .goto (-14)), (27, 28, 1, .return_)]
def ilJ9_fill_3 : IL := [(0, 1, 1, .aload_n 0), (1, 2, 1, .arraylength), (2, 3, 1, .iload_n 1), (3, 4, 1, .iload_n 2), (4, 7, 3, .invokestatic 13), (7, 8, 1, .iload_n 1), (8, 10, 2, .istore 4), (10, 12, 2, .iload 4), (12, 13, 1, .iload_n 2), (13, 16, 3, .if_icmp .ge 14), (16, 17, 1, .aload_n 0), (17, 19, 2, .iload 4), (19, 20, 1, .iload_n 3), (20, 21, 1, .bastore), (21, 24, 3, .iinc 4 1), (24, 27, 3, .goto (-14)), (27, 28, 1, .return_)]
def ilJ9_fill_4 : IL := [(0, 1, 1, .aload_n 0), (1, 2, 1, .arraylength), (2, 3, 1, .iload_n 1), (3, 4, 1, .iload_n 2), (4, 7, 3, .invokestatic 13), (7, 8, 1, .iload_n 1), (8, 10, 2, .istore 5), (10, 12, 2, .iload 5), (12, 13, 1, .iload_n 2), (13, 16, 3, .if_icmp .ge 14), (16, 17, 1, .aload_n 0), (17, 19, 2, .iload 5), (19, 20, 1, .lload_n 3), (20, 21, 1, .lastore), (21, 24, 3, .iinc 5 1), (24, 27, 3, .goto (-14)), (27, 28, 1, .return_)]
def kJ10_checkInvariants_555 (n : Nat) (N : NW) : OR :=
  some (0, N)
def kJ10_checkInvariants_557 (n : Nat) (N : NW) : OR :=
  some (0, N)
def kJ10_checkInvariants_563 (n : Nat) (N : NW) : OR :=
  some (0, N)
def kJ10_clear_555_l0 (K : NW → OR) : Nat → NW → OR
  | 0, _ => none
  | n + 1, N => if (N 555 1) ≤ 0 then (K N) else (lt (up2 N 555 1 (w32 ((N 555 1) - 1))) (fun N1 => ck (0 ≤ (w32 ((N 555 1) - 1)) ∧ (w32 ((N 555 1) - 1)) < 16) (lt (up2 N1 556 (w32 ((N 555 1) - 1)) 0) (fun N3 => kJ10_clear_555_l0 K n N3))))
def kJ10_clear_555 (n : Nat) (N : NW) : OR :=
  kJ10_clear_555_l0 (fun (N5 : NW) => (some (0, N5) : OR)) n N
def kJ10_clear_557_l0 (K : NW → OR) : Nat → NW → OR
  | 0, _ => none
  | n + 1, N => if (N 557 1) ≤ 0 then (K N) else (lt (up2 N 557 1 (w32 ((N 557 1) - 1))) (fun N1 => ck (0 ≤ (w32 ((N 557 1) - 1)) ∧ (w32 ((N 557 1) - 1)) < 16) (lt (up2 N1 558 (w32 ((N 557 1) - 1)) 0) (fun N3 => kJ10_clear_557_l0 K n N3))))
def kJ10_clear_557 (n : Nat) (N : NW) : OR :=
  kJ10_clear_557_l0 (fun (N5 : NW) => (some (0, N5) : OR)) n N
def kJ10_clear_563_l0 (K : NW → OR) : Nat → NW → OR
  | 0, _ => none
  | n + 1, N => if (N 563 1) ≤ 0 then (K N) else (lt (up2 N 563 1 (w32 ((N 563 1) - 1))) (fun N1 => ck (0 ≤ (w32 ((N 563 1) - 1)) ∧ (w32 ((N 563 1) - 1)) < 16) (lt (up2 N1 564 (w32 ((N 563 1) - 1)) 0) (fun N3 => kJ10_clear_563_l0 K n N3))))
def kJ10_clear_563 (n : Nat) (N : NW) : OR :=
  kJ10_clear_563_l0 (fun (N5 : NW) => (some (0, N5) : OR)) n N
def kJ10_expandTo_555 (n : Nat) (a1 : Int) (N : NW) : OR :=
  if (w32 (a1 + 1)) ≤ (N 555 1) then (some (0, N)) else (bn (kJ10_ensureCapacity_555 n (w32 (a1 + 1)) N) (fun r2 N3 => lt (up2 N3 555 1 (w32 (a1 + 1))) (fun N4 => some (0, N4))))
def kJ10_expandTo_557 (n : Nat) (a1 : Int) (N : NW) : OR :=
  if (w32 (a1 + 1)) ≤ (N 557 1) then (some (0, N)) else (bn (kJ10_ensureCapacity_557 n (w32 (a1 + 1)) N) (fun r2 N3 => lt (up2 N3 557 1 (w32 (a1 + 1))) (fun N4 => some (0, N4))))
def kJ10_expandTo_563 (n : Nat) (a1 : Int) (N : NW) : OR :=
  if (w32 (a1 + 1)) ≤ (N 563 1) then (some (0, N)) else (bn (kJ10_ensureCapacity_563 n (w32 (a1 + 1)) N) (fun r2 N3 => lt (up2 N3 563 1 (w32 (a1 + 1))) (fun N4 => some (0, N4))))
def kJ10_wordIndex (n : Nat) (a0 : Int) (N : NW) : OR :=
  some (iShr a0 6, N)
def kJ10_get_563 (n : Nat) (a1 : Int) (N : NW) : OR :=
  if 0 ≤ a1 then (bn (kJ10_checkInvariants_563 n N) (fun r1 N2 => bn (kJ10_wordIndex n a1 N2) (fun r4 N5 => if (N5 563 1) ≤ r4 then (some (0, N5)) else (ck (0 ≤ r4 ∧ r4 < 16) (if (lCmp (lAnd (N5 564 r4) (lShl 1 a1)) 0) = 0 then (some (0, N5)) else (some (1, N5))))))) else (none)
def kJ10_intersects_555_557_l14 (K : NW → OR) : Nat → Int → NW → OR
  | 0, _, _ => none
  | n + 1, v2, N => if v2 < 0 then (K N) else (ck (0 ≤ v2 ∧ v2 < 16) (ck (0 ≤ v2 ∧ v2 < 16) (if (lCmp (lAnd (N 556 v2) (N 558 v2)) 0) = 0 then (kJ10_intersects_555_557_l14 K n (w32 (v2 + (-1))) N) else (some (1, N)))))
def kJ10_intersects_555_557 (n : Nat) (N : NW) : OR :=
  lt (w32 ((iMin (N 555 1) (N 557 1)) - 1)) (fun x2_1 => kJ10_intersects_555_557_l14 (fun (N6 : NW) => (some (0, N6) : OR)) n x2_1 N)
def kJ21_numberOfTrailingZeros (n : Nat) (a0 : Int) (N : NW) : OR :=
  lt (iAnd (iXor a0 (-1)) (w32 (a0 - 1))) (fun x0_1 => if 0 < x0_1 then (lt (fun (x0_2 : Int) (x1_3 : Int) (N4 : NW) => (lt (fun (x0_6 : Int) (x1_7 : Int) (N8 : NW) => (lt (fun (x0_10 : Int) (x1_11 : Int) (N12 : NW) => (lt (fun (x0_14 : Int) (x1_15 : Int) (N16 : NW) => (some (w32 (x1_15 + (iUshr x0_14 1)), N16) : OR)) (fun (J17 : Int → Int → NW → OR) => if x0_10 ≤ 4 then (J17 x0_10 x1_11 N12) else (J17 (iUshr x0_10 2) (w32 (x1_11 + 2)) N12)) : OR)) (fun (J13 : Int → Int → NW → OR) => if x0_6 ≤ 16 then (J13 x0_6 x1_7 N8) else (J13 (iUshr x0_6 4) (w32 (x1_7 + 4)) N8)) : OR)) (fun (J9 : Int → Int → NW → OR) => if x0_2 ≤ 256 then (J9 x0_2 x1_3 N4) else (J9 (iUshr x0_2 8) (w32 (x1_3 + 8)) N4)) : OR)) (fun (J5 : Int → Int → NW → OR) => if x0_1 ≤ 65536 then (J5 x0_1 1 N) else (J5 (iUshr x0_1 16) (w32 (1 + 16)) N))) else (some (iAnd x0_1 32, N)))
def kJ23_numberOfTrailingZeros (n : Nat) (a0 : Int) (N : NW) : OR :=
  if (l2I a0) = 0 then (bn (kJ21_numberOfTrailingZeros n (l2I (lUshr a0 32)) N) (fun r4 N5 => some (w32 (32 + r4), N5))) else (bn (kJ21_numberOfTrailingZeros n (l2I a0) N) (fun r1 N2 => some (r1, N2)))
def kJ10_nextSetBit_555_l63 : Nat → Int → Int → NW → OR
  | 0, _, _, _ => none
  | n + 1, v2, v3, N => if (lCmp v3 0) = 0 then (if (w32 (v2 + 1)) = (N 555 1) then (some ((-1), N)) else (ck (0 ≤ (w32 (v2 + 1)) ∧ (w32 (v2 + 1)) < 16) (kJ10_nextSetBit_555_l63 n (w32 (v2 + 1)) (N 556 (w32 (v2 + 1))) N))) else (bn (kJ23_numberOfTrailingZeros n v3 N) (fun r11 N12 => some (w32 ((w32 (v2 * 64)) + r11), N12)))
def kJ10_nextSetBit_555 (n : Nat) (a1 : Int) (N : NW) : OR :=
  if 0 ≤ a1 then (bn (kJ10_checkInvariants_555 n N) (fun r1 N2 => bn (kJ10_wordIndex n a1 N2) (fun r4 N5 => if r4 < (N5 555 1) then (ck (0 ≤ r4 ∧ r4 < 16) (lt (lAnd (N5 556 r4) (lShl (-1) a1)) (fun x3_8 => kJ10_nextSetBit_555_l63 n r4 x3_8 N5))) else (some ((-1), N5))))) else (none)
def kJ10_nextSetBit_557_l63 : Nat → Int → Int → NW → OR
  | 0, _, _, _ => none
  | n + 1, v2, v3, N => if (lCmp v3 0) = 0 then (if (w32 (v2 + 1)) = (N 557 1) then (some ((-1), N)) else (ck (0 ≤ (w32 (v2 + 1)) ∧ (w32 (v2 + 1)) < 16) (kJ10_nextSetBit_557_l63 n (w32 (v2 + 1)) (N 558 (w32 (v2 + 1))) N))) else (bn (kJ23_numberOfTrailingZeros n v3 N) (fun r11 N12 => some (w32 ((w32 (v2 * 64)) + r11), N12)))
def kJ10_nextSetBit_557 (n : Nat) (a1 : Int) (N : NW) : OR :=
  if 0 ≤ a1 then (bn (kJ10_checkInvariants_557 n N) (fun r1 N2 => bn (kJ10_wordIndex n a1 N2) (fun r4 N5 => if r4 < (N5 557 1) then (ck (0 ≤ r4 ∧ r4 < 16) (lt (lAnd (N5 558 r4) (lShl (-1) a1)) (fun x3_8 => kJ10_nextSetBit_557_l63 n r4 x3_8 N5))) else (some ((-1), N5))))) else (none)
def kJ10_nextSetBit_563_l63 : Nat → Int → Int → NW → OR
  | 0, _, _, _ => none
  | n + 1, v2, v3, N => if (lCmp v3 0) = 0 then (if (w32 (v2 + 1)) = (N 563 1) then (some ((-1), N)) else (ck (0 ≤ (w32 (v2 + 1)) ∧ (w32 (v2 + 1)) < 16) (kJ10_nextSetBit_563_l63 n (w32 (v2 + 1)) (N 564 (w32 (v2 + 1))) N))) else (bn (kJ23_numberOfTrailingZeros n v3 N) (fun r11 N12 => some (w32 ((w32 (v2 * 64)) + r11), N12)))
def kJ10_nextSetBit_563 (n : Nat) (a1 : Int) (N : NW) : OR :=
  if 0 ≤ a1 then (bn (kJ10_checkInvariants_563 n N) (fun r1 N2 => bn (kJ10_wordIndex n a1 N2) (fun r4 N5 => if r4 < (N5 563 1) then (ck (0 ≤ r4 ∧ r4 < 16) (lt (lAnd (N5 564 r4) (lShl (-1) a1)) (fun x3_8 => kJ10_nextSetBit_563_l63 n r4 x3_8 N5))) else (some ((-1), N5))))) else (none)
def kJ10_set_555 (n : Nat) (a1 : Int) (N : NW) : OR :=
  if 0 ≤ a1 then (bn (kJ10_wordIndex n a1 N) (fun r1 N2 => bn (kJ10_expandTo_555 n r1 N2) (fun r4 N5 => ck (0 ≤ r1 ∧ r1 < 16) (ck (0 ≤ r1 ∧ r1 < 16) (lt (up2 N5 556 r1 (lOr (N5 556 r1) (lShl 1 a1))) (fun N9 => bn (kJ10_checkInvariants_555 n N9) (fun r10 N11 => some (0, N11)))))))) else (none)
def kJ10_set_557 (n : Nat) (a1 : Int) (N : NW) : OR :=
  if 0 ≤ a1 then (bn (kJ10_wordIndex n a1 N) (fun r1 N2 => bn (kJ10_expandTo_557 n r1 N2) (fun r4 N5 => ck (0 ≤ r1 ∧ r1 < 16) (ck (0 ≤ r1 ∧ r1 < 16) (lt (up2 N5 558 r1 (lOr (N5 558 r1) (lShl 1 a1))) (fun N9 => bn (kJ10_checkInvariants_557 n N9) (fun r10 N11 => some (0, N11)))))))) else (none)
def kJ10_set_563 (n : Nat) (a1 : Int) (N : NW) : OR :=
  if 0 ≤ a1 then (bn (kJ10_wordIndex n a1 N) (fun r1 N2 => bn (kJ10_expandTo_563 n r1 N2) (fun r4 N5 => ck (0 ≤ r1 ∧ r1 < 16) (ck (0 ≤ r1 ∧ r1 < 16) (lt (up2 N5 564 r1 (lOr (N5 564 r1) (lShl 1 a1))) (fun N9 => bn (kJ10_checkInvariants_563 n N9) (fun r10 N11 => some (0, N11)))))))) else (none)
def kJ7_size_519 (n : Nat) (N : NW) : OR :=
  some (N 519 2, N)
def kJ7_size_520 (n : Nat) (N : NW) : OR :=
  some (N 520 2, N)
def kJ9_fill_613_l5 (v1 : Int) (v3 : Int) (K : NW → OR) : Nat → Int → NW → OR
  | 0, _, _ => none
  | n + 1, v2, N => if v3 ≤ v2 then (K N) else (ck (0 ≤ v2 ∧ v2 < 1500) (lt (up2 N 613 v2 v1) (fun N2 => kJ9_fill_613_l5 v1 v3 K n (w32 (v2 + 1)) N2)))
def kJ9_fill_613 (n : Nat) (a1 : Int) (N : NW) : OR :=
  kJ9_fill_613_l5 a1 1500 (fun (N4 : NW) => (some (0, N4) : OR)) n 0 N
def kJ9_fill_621_l5 (v1 : Int) (v3 : Int) (K : NW → OR) : Nat → Int → NW → OR
  | 0, _, _ => none
  | n + 1, v2, N => if v3 ≤ v2 then (K N) else (ck (0 ≤ v2 ∧ v2 < 1000) (lt (up2 N 621 v2 v1) (fun N2 => kJ9_fill_621_l5 v1 v3 K n (w32 (v2 + 1)) N2)))
def kJ9_fill_621 (n : Nat) (a1 : Int) (N : NW) : OR :=
  kJ9_fill_621_l5 a1 1000 (fun (N4 : NW) => (some (0, N4) : OR)) n 0 N
def kJ9_fill_627_l5 (v1 : Int) (v3 : Int) (K : NW → OR) : Nat → Int → NW → OR
  | 0, _, _ => none
  | n + 1, v2, N => if v3 ≤ v2 then (K N) else (ck (0 ≤ v2 ∧ v2 < 65536) (lt (up2 N 627 v2 v1) (fun N2 => kJ9_fill_627_l5 v1 v3 K n (w32 (v2 + 1)) N2)))
def kJ9_fill_627 (n : Nat) (a1 : Int) (N : NW) : OR :=
  kJ9_fill_627_l5 a1 65536 (fun (N4 : NW) => (some (0, N4) : OR)) n 0 N
def kJ9_fill_635_l5 (v1 : Int) (v3 : Int) (K : NW → OR) : Nat → Int → NW → OR
  | 0, _, _ => none
  | n + 1, v2, N => if v3 ≤ v2 then (K N) else (ck (0 ≤ v2 ∧ v2 < 1500) (lt (up2 N 635 v2 v1) (fun N2 => kJ9_fill_635_l5 v1 v3 K n (w32 (v2 + 1)) N2)))
def kJ9_fill_635 (n : Nat) (a1 : Int) (N : NW) : OR :=
  kJ9_fill_635_l5 a1 1500 (fun (N4 : NW) => (some (0, N4) : OR)) n 0 N
def kJ9_fill_641_l5 (v1 : Int) (v3 : Int) (K : NW → OR) : Nat → Int → NW → OR
  | 0, _, _ => none
  | n + 1, v2, N => if v3 ≤ v2 then (K N) else (ck (0 ≤ v2 ∧ v2 < 1000) (lt (up2 N 641 v2 v1) (fun N2 => kJ9_fill_641_l5 v1 v3 K n (w32 (v2 + 1)) N2)))
def kJ9_fill_641 (n : Nat) (a1 : Int) (N : NW) : OR :=
  kJ9_fill_641_l5 a1 1000 (fun (N4 : NW) => (some (0, N4) : OR)) n 0 N
def kJ9_rangeCheck (n : Nat) (a0 : Int) (a1 : Int) (a2 : Int) (N : NW) : OR :=
  if a1 ≤ a2 then (if 0 ≤ a1 then (if a2 ≤ a0 then (some (0, N)) else (none)) else (none)) else (none)
def kJ9_fill_2_628_l10 (v2 : Int) (v3 : Int) (K : NW → OR) : Nat → Int → NW → OR
  | 0, _, _ => none
  | n + 1, v4, N => if v2 ≤ v4 then (K N) else (ck ((0 ≤ v4 ∧ v4 < 20000) ∧ (0 : Int) ≤ v3 ∧ v3 < 2) (lt (up2 N 628 v4 v3) (fun N5 => kJ9_fill_2_628_l10 v2 v3 K n (w32 (v4 + 1)) N5)))
def kJ9_fill_2_628 (n : Nat) (a1 : Int) (a2 : Int) (a3 : Int) (N : NW) : OR :=
  bn (kJ9_rangeCheck n 20000 a1 a2 N) (fun r1 N2 => kJ9_fill_2_628_l10 a2 a3 (fun (N7 : NW) => (some (0, N7) : OR)) n a1 N2)
def kJ9_fill_2_629_l10 (v2 : Int) (v3 : Int) (K : NW → OR) : Nat → Int → NW → OR
  | 0, _, _ => none
  | n + 1, v4, N => if v2 ≤ v4 then (K N) else (ck ((0 ≤ v4 ∧ v4 < 20000) ∧ (0 : Int) ≤ v3 ∧ v3 < 2) (lt (up2 N 629 v4 v3) (fun N5 => kJ9_fill_2_629_l10 v2 v3 K n (w32 (v4 + 1)) N5)))
def kJ9_fill_2_629 (n : Nat) (a1 : Int) (a2 : Int) (a3 : Int) (N : NW) : OR :=
  bn (kJ9_rangeCheck n 20000 a1 a2 N) (fun r1 N2 => kJ9_fill_2_629_l10 a2 a3 (fun (N7 : NW) => (some (0, N7) : OR)) n a1 N2)
def kJ9_fill_3_603_l10 (v2 : Int) (v3 : Int) (K : NW → OR) : Nat → Int → NW → OR
  | 0, _, _ => none
  | n + 1, v4, N => if v2 ≤ v4 then (K N) else (ck ((0 ≤ v4 ∧ v4 < 375821) ∧ -128 ≤ v3 ∧ v3 < 128) (lt (up2 N 603 v4 v3) (fun N5 => kJ9_fill_3_603_l10 v2 v3 K n (w32 (v4 + 1)) N5)))
def kJ9_fill_3_603 (n : Nat) (a1 : Int) (a2 : Int) (a3 : Int) (N : NW) : OR :=
  bn (kJ9_rangeCheck n 375821 a1 a2 N) (fun r1 N2 => kJ9_fill_3_603_l10 a2 a3 (fun (N7 : NW) => (some (0, N7) : OR)) n a1 N2)
def kJ9_fill_3_606_l10 (v2 : Int) (v3 : Int) (K : NW → OR) : Nat → Int → NW → OR
  | 0, _, _ => none
  | n + 1, v4, N => if v2 ≤ v4 then (K N) else (ck ((0 ≤ v4 ∧ v4 < 3721) ∧ -128 ≤ v3 ∧ v3 < 128) (lt (up2 N 606 v4 v3) (fun N5 => kJ9_fill_3_606_l10 v2 v3 K n (w32 (v4 + 1)) N5)))
def kJ9_fill_3_606 (n : Nat) (a1 : Int) (a2 : Int) (a3 : Int) (N : NW) : OR :=
  bn (kJ9_rangeCheck n 3721 a1 a2 N) (fun r1 N2 => kJ9_fill_3_606_l10 a2 a3 (fun (N7 : NW) => (some (0, N7) : OR)) n a1 N2)
def kJ9_fill_4_604_l10 (v2 : Int) (v3 : Int) (K : NW → OR) : Nat → Int → NW → OR
  | 0, _, _ => none
  | n + 1, v5, N => if v2 ≤ v5 then (K N) else (ck (0 ≤ v5 ∧ v5 < 30001) (lt (up2 N 604 v5 v3) (fun N5 => kJ9_fill_4_604_l10 v2 v3 K n (w32 (v5 + 1)) N5)))
def kJ9_fill_4_604 (n : Nat) (a1 : Int) (a2 : Int) (a3 : Int) (N : NW) : OR :=
  bn (kJ9_rangeCheck n 30001 a1 a2 N) (fun r1 N2 => kJ9_fill_4_604_l10 a2 a3 (fun (N7 : NW) => (some (0, N7) : OR)) n a1 N2)
def kJ9_fill_4_605_l10 (v2 : Int) (v3 : Int) (K : NW → OR) : Nat → Int → NW → OR
  | 0, _, _ => none
  | n + 1, v5, N => if v2 ≤ v5 then (K N) else (ck (0 ≤ v5 ∧ v5 < 30001) (lt (up2 N 605 v5 v3) (fun N5 => kJ9_fill_4_605_l10 v2 v3 K n (w32 (v5 + 1)) N5)))
def kJ9_fill_4_605 (n : Nat) (a1 : Int) (a2 : Int) (a3 : Int) (N : NW) : OR :=
  bn (kJ9_rangeCheck n 30001 a1 a2 N) (fun r1 N2 => kJ9_fill_4_605_l10 a2 a3 (fun (N7 : NW) => (some (0, N7) : OR)) n a1 N2)
end

section
set_option maxRecDepth 100000
def ilJ9_fill_5 : IL := [(0, 1, 1, .iconst 0), (1, 2, 1, .istore_n 2), (2, 3, 1, .aload_n 0), (3, 4, 1, .arraylength), (4, 5, 1, .istore_n 3), (5, 6, 1, .iload_n 2), (6, 7, 1, .iload_n 3), (7, 10, 3, .if_icmp .ge 13), (10, 11, 1, .aload_n 0), (11, 12, 1, .iload_n 2), (12, 13, 1, .iload_n 1), (13, 14, 1, .bastore), (14, 17, 3, .iinc 2 1), (17, 20, 3, .goto (-12)), (20, 21, 1, .return_)]
def ilX3_isAssertion : IL := [(0, 1, 1, .aload_n 0), (1, 4, 3, .getfield 42), (4, 5, 1, .iload_n 1), (5, 6, 1, .iaload), (6, 7, 1, .iconst 1), (7, 10, 3, .if_icmp .le 7), (10, 11, 1, .iconst 1), (11, 14, 3, .goto 4), (14, 15, 1, .iconst 0), (15, 16, 1, .ireturn)]
def ilX3_size : IL := [(0, 1, 1, .aload_n 0), (1, 4, 3, .getfield 28), (4, 9, 5, .invokeinterface 79 1), (9, 10, 1, .ireturn)]
def ilX3_isIn : IL := [(0, 1, 1, .iload_n 1), (1, 4, 3, .ifCond .lt 15), (4, 5, 1, .iload_n 1), (5, 6, 1, .aload_n 0), (6, 9, 3, .invokevirtual 85), (9, 12, 3, .if_icmp .ge 7), (12, 13, 1, .iconst 1), (13, 16, 3, .goto 4), (16, 17, 1, .iconst 0), (17, 18, 1, .ireturn)]
def ilX0_isAssertion : IL := [(0, 1, 1, .aload_n 0), (1, 4, 3, .getfield 40), (4, 5, 1, .iload_n 1), (5, 8, 3, .invokevirtual 211), (8, 11, 3, .ifCond .eq 18), (11, 12, 1, .aload_n 0), (12, 15, 3, .getfield 40), (15, 16, 1, .iload_n 1), (16, 19, 3, .invokevirtual 248), (19, 22, 3, .ifCond .eq 7), (22, 23, 1, .iconst 1), (23, 26, 3, .goto 4), (26, 27, 1, .iconst 0), (27, 28, 1, .ireturn)]
def ilX3_isPair : IL := [(0, 1, 1, .iconst 0), (1, 3, 2, .istore 4), (3, 4, 1, .aload_n 0), (4, 7, 3, .getfield 61), (7, 8, 1, .iload_n 1), (8, 9, 1, .iaload), (9, 11, 2, .istore 5), (11, 13, 2, .iload 5), (13, 14, 1, .aload_n 0), (14, 17, 3, .getfield 61), (17, 18, 1, .iload_n 1), (18, 19, 1, .iconst 1), (19, 20, 1, .iadd), (20, 21, 1, .iaload), (21, 24, 3, .if_icmp .ge 49), (24, 26, 2, .iload 4), (26, 27, 1, .aload_n 0), (27, 30, 3, .getfield 64), (30, 32, 2, .iload 5), (32, 33, 1, .iaload), (33, 34, 1, .iload_n 2), (34, 35, 1, .iload_n 3), (35, 38, 3, .invokestatic 125), (38, 41, 3, .if_icmp .ne 22), (41, 42, 1, .aload_n 0), (42, 45, 3, .getfield 67), (45, 47, 2, .iload 5), (47, 48, 1, .iaload), (48, 49, 1, .iload_n 2), (49, 50, 1, .iload_n 3), (50, 53, 3, .invokestatic 131), (53, 56, 3, .if_icmp .ne 7), (56, 57, 1, .iconst 1), (57, 60, 3, .goto 4), (60, 61, 1, .iconst 0), (61, 62, 1, .ior), (62, 64, 2, .istore 4), (64, 67, 3, .iinc 5 1), (67, 70, 3, .goto (-56)), (70, 72, 2, .iload 4), (72, 73, 1, .ireturn)]
def ilX0_apart : IL := [(0, 1, 1, .aload_n 0), (1, 2, 1, .iload_n 1), (2, 5, 3, .invokevirtual 251), (5, 8, 3, .ifCond .ne 7), (8, 9, 1, .iconst (-1)), (9, 12, 3, .goto 21), (12, 13, 1, .aload_n 0), (13, 16, 3, .getfield 40), (16, 17, 1, .iload_n 1), (17, 18, 1, .iload_n 2), (18, 19, 1, .iload_n 3), (19, 22, 3, .invokevirtual 270), (22, 25, 3, .ifCond .eq 7), (25, 26, 1, .iconst 1), (26, 29, 3, .goto 4), (29, 30, 1, .iconst 0), (30, 31, 1, .ireturn)]
def ilX0_isBound : IL := [(0, 1, 1, .iconst 1), (1, 2, 1, .istore_n 2), (2, 3, 1, .aload_n 0), (3, 6, 3, .getfield 40), (6, 9, 3, .getfield 220), (9, 10, 1, .iload_n 1), (10, 11, 1, .iaload), (11, 12, 1, .istore_n 3), (12, 13, 1, .iload_n 3), (13, 14, 1, .aload_n 0), (14, 17, 3, .getfield 40), (17, 20, 3, .getfield 220), (20, 21, 1, .iload_n 1), (21, 22, 1, .iconst 1), (22, 23, 1, .iadd), (23, 24, 1, .iaload), (24, 27, 3, .if_icmp .ge 51), (27, 28, 1, .aload_n 0), (28, 31, 3, .getfield 40), (31, 34, 3, .getfield 217), (34, 35, 1, .iload_n 3), (35, 36, 1, .iaload), (36, 38, 2, .istore 4), (38, 39, 1, .iload_n 2), (39, 40, 1, .aload_n 0), (40, 43, 3, .getfield 40), (43, 46, 3, .getfield 191), (46, 48, 2, .iload 4), (48, 49, 1, .baload), (49, 52, 3, .ifCond .ne 13), (52, 53, 1, .aload_n 0), (53, 56, 3, .getfield 144), (56, 58, 2, .iload 4), (58, 59, 1, .iaload), (59, 62, 3, .ifCond .lt 7), (62, 63, 1, .iconst 1), (63, 66, 3, .goto 4), (66, 67, 1, .iconst 0), (67, 68, 1, .iand), (68, 69, 1, .istore_n 2), (69, 72, 3, .iinc 3 1), (72, 75, 3, .goto (-60)), (75, 76, 1, .iload_n 2), (76, 77, 1, .ireturn)]
def ilX3_hypothesis : IL := [(0, 1, 1, .aload_n 0), (1, 4, 3, .getfield 58), (4, 5, 1, .aload_n 0), (5, 8, 3, .getfield 54), (8, 9, 1, .iload_n 1), (9, 10, 1, .iaload), (10, 11, 1, .iload_n 2), (11, 12, 1, .iadd), (12, 13, 1, .iaload), (13, 14, 1, .ireturn)]
def ilX3_mandatory : IL := [(0, 1, 1, .aload_n 0), (1, 4, 3, .getfield 54), (4, 5, 1, .iload_n 1), (5, 6, 1, .iconst 1), (6, 7, 1, .iadd), (7, 8, 1, .iaload), (8, 9, 1, .aload_n 0), (9, 12, 3, .getfield 54), (12, 13, 1, .iload_n 1), (13, 14, 1, .iaload), (14, 15, 1, .isub), (15, 16, 1, .ireturn)]
def ilX0_areBound : IL := [(0, 1, 1, .iconst 1), (1, 2, 1, .istore_n 2), (2, 3, 1, .iconst 0), (3, 4, 1, .istore_n 3), (4, 5, 1, .iload_n 3), (5, 6, 1, .aload_n 0), (6, 9, 3, .getfield 40), (9, 10, 1, .iload_n 1), (10, 13, 3, .invokevirtual 252), (13, 16, 3, .if_icmp .ge 50), (16, 17, 1, .aload_n 0), (17, 20, 3, .getfield 40), (20, 21, 1, .iload_n 1), (21, 22, 1, .iload_n 3), (22, 25, 3, .invokevirtual 266), (25, 27, 2, .istore 4), (27, 28, 1, .iload_n 2), (28, 29, 1, .aload_n 0), (29, 32, 3, .getfield 40), (32, 35, 3, .getfield 181), (35, 37, 2, .iload 4), (37, 38, 1, .iaload), (38, 41, 3, .ifCond .eq 12), (41, 42, 1, .aload_n 0), (42, 44, 2, .iload 4), (44, 47, 3, .invokevirtual 491), (47, 50, 3, .ifCond .eq 7), (50, 51, 1, .iconst 1), (51, 54, 3, .goto 4), (54, 55, 1, .iconst 0), (55, 56, 1, .iand), (56, 57, 1, .istore_n 2), (57, 60, 3, .iinc 3 1), (60, 63, 3, .goto (-56)), (63, 64, 1, .iload_n 2), (64, 65, 1, .ireturn)]
def ilX0_character : IL := [(0, 1, 1, .iload_n 1), (1, 4, 3, .ifCond .lt 20), (4, 5, 1, .iload_n 1), (5, 6, 1, .aload_n 0), (6, 9, 3, .getfield 323), (9, 12, 3, .if_icmp .ge 12), (12, 13, 1, .aload_n 0), (13, 16, 3, .getfield 87), (16, 17, 1, .iload_n 1), (17, 18, 1, .baload), (18, 21, 3, .goto 4), (21, 22, 1, .iconst (-1)), (22, 23, 1, .ireturn)]
def ilX0_countFlags : IL := [(0, 1, 1, .iconst 0), (1, 2, 1, .istore_n 3), (2, 3, 1, .iconst 0), (3, 5, 2, .istore 4), (5, 7, 2, .iload 4), (7, 8, 1, .iload_n 2), (8, 11, 3, .if_icmp .ge 24), (11, 12, 1, .iload_n 3), (12, 13, 1, .aload_n 1), (13, 15, 2, .iload 4), (15, 16, 1, .baload), (16, 19, 3, .ifCond .eq 7), (19, 20, 1, .iconst 1), (20, 23, 3, .goto 4), (23, 24, 1, .iconst 0), (24, 25, 1, .iadd), (25, 26, 1, .istore_n 3), (26, 29, 3, .iinc 4 1), (29, 32, 3, .goto (-24)), (32, 33, 1, .iload_n 3), (33, 34, 1, .ireturn)]
def ilX0_countKind : IL := [(0, 1, 1, .iconst 0), (1, 2, 1, .istore_n 2), (2, 3, 1, .iconst 0), (3, 4, 1, .istore_n 3), (4, 5, 1, .iload_n 3), (5, 6, 1, .aload_n 0), (6, 9, 3, .getfield 40), (9, 12, 3, .invokevirtual 178), (12, 15, 3, .if_icmp .ge 30), (15, 16, 1, .iload_n 2), (16, 17, 1, .aload_n 0), (17, 20, 3, .getfield 40), (20, 23, 3, .getfield 181), (23, 24, 1, .iload_n 3), (24, 25, 1, .iaload), (25, 26, 1, .iload_n 1), (26, 29, 3, .if_icmp .ne 7), (29, 30, 1, .iconst 1), (30, 33, 3, .goto 4), (33, 34, 1, .iconst 0), (34, 35, 1, .iadd), (35, 36, 1, .istore_n 2), (36, 39, 3, .iinc 3 1), (39, 42, 3, .goto (-35)), (42, 43, 1, .iload_n 2), (43, 44, 1, .ireturn)]
def ilX0_count : IL := [(0, 1, 1, .aload_n 0), (1, 4, 3, .getfield 40), (4, 7, 3, .invokevirtual 178), (7, 8, 1, .istore_n 2), (8, 9, 1, .iload_n 1), (9, 64, 55, .tableswitch 135 0 9 #[55, 57, 70, 94, 94, 94, 94, 102, 115, 125]), (64, 65, 1, .iload_n 2), (65, 66, 1, .ireturn), (66, 67, 1, .aload_n 0), (67, 70, 3, .getfield 40), (70, 73, 3, .getfield 184), (73, 78, 5, .invokeinterface 188 1), (78, 79, 1, .ireturn), (79, 80, 1, .aload_n 0), (80, 81, 1, .aload_n 0), (81, 84, 3, .getfield 40), (84, 87, 3, .getfield 191), (87, 88, 1, .aload_n 0), (88, 91, 3, .getfield 40), (91, 94, 3, .getfield 184), (94, 99, 5, .invokeinterface 188 1), (99, 102, 3, .invokevirtual 195), (102, 103, 1, .ireturn), (103, 104, 1, .aload_n 0), (104, 105, 1, .iload_n 1), (105, 106, 1, .iconst 3), (106, 107, 1, .isub), (107, 110, 3, .invokevirtual 199), (110, 111, 1, .ireturn), (111, 112, 1, .aload_n 0), (112, 113, 1, .aload_n 0), (113, 116, 3, .getfield 40), (116, 119, 3, .getfield 203), (119, 120, 1, .iload_n 2), (120, 123, 3, .invokevirtual 195), (123, 124, 1, .ireturn), (124, 125, 1, .aload_n 0), (125, 128, 3, .getfield 40), (128, 131, 3, .getfield 205), (131, 132, 1, .iload_n 2), (132, 133, 1, .iaload), (133, 134, 1, .ireturn), (134, 135, 1, .aload_n 0), (135, 138, 3, .getfield 40), (138, 141, 3, .getfield 208), (141, 142, 1, .iload_n 2), (142, 143, 1, .iaload), (143, 144, 1, .ireturn), (144, 145, 1, .iconst (-1)), (145, 146, 1, .ireturn)]
def ilX0_end : IL := [(0, 1, 1, .aload_n 0), (1, 4, 3, .getfield 150), (4, 7, 3, .ifCond .eq 13), (7, 8, 1, .iload_n 1), (8, 11, 3, .ifCond .lt 9), (11, 12, 1, .iload_n 1), (12, 14, 2, .bipush 19), (14, 17, 3, .if_icmp .le 5), (17, 18, 1, .iconst (-1)), (18, 19, 1, .ireturn), (19, 20, 1, .aload_n 0), (20, 21, 1, .iconst 0), (21, 24, 3, .putfield 150), (24, 25, 1, .aload_n 0), (25, 28, 3, .getfield 33), (28, 29, 1, .dup), (29, 32, 3, .getfield 154), (32, 34, 2, .bipush 20), (34, 35, 1, .iload_n 1), (35, 36, 1, .isub), (36, 37, 1, .isub), (37, 40, 3, .putfield 154), (40, 41, 1, .aload_n 0), (41, 44, 3, .getfield 33), (44, 47, 3, .getfield 154), (47, 48, 1, .ireturn)]
def ilX0_put : IL := [(0, 2, 2, .bipush 24), (2, 3, 1, .istore_n 2), (3, 4, 1, .iload_n 2), (4, 7, 3, .ifCond .lt 35), (7, 8, 1, .aload_n 0), (8, 11, 3, .getfield 33), (11, 14, 3, .getfield 162), (14, 15, 1, .aload_n 0), (15, 18, 3, .getfield 33), (18, 19, 1, .dup), (19, 22, 3, .getfield 154), (22, 23, 1, .dup_x1), (23, 24, 1, .iconst 1), (24, 25, 1, .iadd), (25, 28, 3, .putfield 154), (28, 29, 1, .iload_n 1), (29, 30, 1, .iload_n 2), (30, 31, 1, .ishr), (31, 32, 1, .i2b), (32, 33, 1, .bastore), (33, 36, 3, .iinc 2 (-8)), (36, 39, 3, .goto (-33)), (39, 40, 1, .return_)]
def ilX0_feed : IL := [(0, 1, 1, .aload_n 0), (1, 2, 1, .iconst 0), (2, 5, 3, .putfield 150), (5, 6, 1, .aload_n 0), (6, 9, 3, .getfield 33), (9, 12, 3, .getfield 154), (12, 14, 2, .bipush 20), (14, 15, 1, .iadd), (15, 17, 2, .ldc 157), (17, 20, 3, .if_icmp .le 6), (20, 22, 2, .bipush (-2)), (22, 23, 1, .ireturn), (23, 24, 1, .aload_n 0), (24, 25, 1, .iload_n 1), (25, 28, 3, .invokevirtual 158), (28, 29, 1, .aload_n 0), (29, 30, 1, .iload_n 2), (30, 33, 3, .invokevirtual 158), (33, 34, 1, .aload_n 0), (34, 35, 1, .iload_n 3), (35, 38, 3, .invokevirtual 158), (38, 39, 1, .aload_n 0), (39, 41, 2, .iload 4), (41, 44, 3, .invokevirtual 158), (44, 45, 1, .aload_n 0), (45, 47, 2, .iload 5), (47, 50, 3, .invokevirtual 158), (50, 51, 1, .aload_n 0), (51, 52, 1, .iconst 1), (52, 55, 3, .putfield 150), (55, 56, 1, .aload_n 0), (56, 59, 3, .getfield 33), (59, 62, 3, .getfield 154), (62, 63, 1, .ireturn)]
def ilX0_floatingOf : IL := [(0, 1, 1, .iconst (-1)), (1, 2, 1, .istore_n 3), (2, 3, 1, .iconst 0), (3, 5, 2, .istore 4), (5, 7, 2, .iload 4), (7, 8, 1, .aload_n 0), (8, 11, 3, .getfield 40), (11, 12, 1, .iload_n 1), (12, 15, 3, .invokevirtual 252), (15, 18, 3, .if_icmp .ge 65), (18, 19, 1, .aload_n 0), (19, 22, 3, .getfield 40), (22, 23, 1, .iload_n 1), (23, 25, 2, .iload 4), (25, 28, 3, .invokevirtual 266), (28, 30, 2, .istore 5), (30, 31, 1, .aload_n 0), (31, 34, 3, .getfield 40), (34, 37, 3, .getfield 181), (37, 39, 2, .iload 5), (39, 40, 1, .iaload), (40, 43, 3, .ifCond .ne 32), (43, 44, 1, .aload_n 0), (44, 47, 3, .getfield 40), (47, 50, 3, .getfield 217), (50, 51, 1, .aload_n 0), (51, 54, 3, .getfield 40), (54, 57, 3, .getfield 220), (57, 59, 2, .iload 5), (59, 60, 1, .iaload), (60, 61, 1, .iconst 1), (61, 62, 1, .iadd), (62, 63, 1, .iaload), (63, 64, 1, .iload_n 2), (64, 67, 3, .if_icmp .ne 8), (67, 69, 2, .iload 5), (69, 72, 3, .goto 4), (72, 73, 1, .iload_n 3), (73, 74, 1, .istore_n 3), (74, 77, 3, .iinc 4 1), (77, 80, 3, .goto (-72)), (80, 81, 1, .iload_n 3), (81, 82, 1, .ireturn)]
def ilX0_forget : IL := [(0, 1, 1, .aload_n 0), (1, 4, 3, .getfield 123), (4, 5, 1, .iconst (-1)), (5, 8, 3, .putfield 360), (8, 9, 1, .return_)]
def ilX0_isProved : IL := [(0, 1, 1, .aload_n 0), (1, 4, 3, .getfield 40), (4, 5, 1, .iload_n 1), (5, 8, 3, .invokevirtual 211), (8, 11, 3, .ifCond .eq 32), (11, 12, 1, .aload_n 0), (12, 15, 3, .getfield 40), (15, 18, 3, .getfield 181), (18, 19, 1, .iload_n 1), (19, 20, 1, .iaload), (20, 21, 1, .iconst 3), (21, 24, 3, .if_icmp .ne 19), (24, 25, 1, .aload_n 0), (25, 28, 3, .getfield 40), (28, 31, 3, .getfield 203), (31, 32, 1, .iload_n 1), (32, 33, 1, .baload), (33, 36, 3, .ifCond .ne 7), (36, 37, 1, .iconst 1), (37, 40, 3, .goto 4), (40, 41, 1, .iconst 0), (41, 42, 1, .ireturn)]
def ilX8_make : IL := [(0, 1, 1, .aload_n 0), (1, 4, 3, .getfield 31), (4, 5, 1, .iload_n 1), (5, 8, 3, .invokevirtual 50), (8, 11, 3, .ifCond .eq 14), (11, 12, 1, .aload_n 0), (12, 15, 3, .getfield 31), (15, 16, 1, .iload_n 1), (16, 19, 3, .invokevirtual 54), (19, 22, 3, .goto 4), (22, 23, 1, .iconst 0), (23, 24, 1, .istore_n 3), (24, 25, 1, .aload_n 0), (25, 28, 3, .getfield 15), (28, 29, 1, .aload_n 0), (29, 32, 3, .getfield 35), (32, 33, 1, .iload_n 1), (33, 34, 1, .iastore), (34, 35, 1, .aload_n 0), (35, 38, 3, .getfield 19), (38, 39, 1, .aload_n 0), (39, 42, 3, .getfield 35), (42, 43, 1, .iconst 1), (43, 44, 1, .iadd), (44, 45, 1, .aload_n 0), (45, 48, 3, .getfield 19), (48, 49, 1, .aload_n 0), (49, 52, 3, .getfield 35), (52, 53, 1, .iaload), (53, 54, 1, .iload_n 3), (54, 55, 1, .iadd), (55, 56, 1, .iastore), (56, 57, 1, .aload_n 0), (57, 60, 3, .getfield 25), (60, 61, 1, .iload_n 2), (61, 62, 1, .iload_n 3), (62, 63, 1, .isub), (63, 64, 1, .aload_n 0), (64, 67, 3, .getfield 22), (67, 68, 1, .aload_n 0), (68, 71, 3, .getfield 19), (71, 72, 1, .aload_n 0), (72, 75, 3, .getfield 35), (75, 76, 1, .iaload), (76, 77, 1, .iload_n 3), (77, 80, 3, .invokestatic 58), (80, 81, 1, .aload_n 0), (81, 84, 3, .getfield 25), (84, 85, 1, .iload_n 2), (85, 86, 1, .iload_n 3), (86, 87, 1, .isub), (87, 88, 1, .aload_n 0), (88, 89, 1, .dup), (89, 92, 3, .getfield 35), (92, 93, 1, .dup_x1), (93, 94, 1, .iconst 1), (94, 95, 1, .iadd), (95, 98, 3, .putfield 35), (98, 99, 1, .iastore), (99, 100, 1, .iload_n 2), (100, 101, 1, .iload_n 3), (101, 102, 1, .isub), (102, 103, 1, .iconst 1), (103, 104, 1, .iadd), (104, 105, 1, .ireturn)]
def ilX8_of : IL := [(0, 1, 1, .aload_n 0), (1, 4, 3, .getfield 9), (4, 5, 1, .iload_n 1), (5, 8, 3, .if_icmp .ne 5), (8, 9, 1, .aload_n 0), (9, 10, 1, .areturn), (10, 11, 1, .aload_n 0), (11, 12, 1, .iload_n 1), (12, 15, 3, .putfield 9), (15, 16, 1, .aload_n 0), (16, 17, 1, .iconst 0), (17, 20, 3, .putfield 35), (20, 21, 1, .iconst 0), (21, 22, 1, .istore_n 2), (22, 23, 1, .iconst 0), (23, 24, 1, .istore_n 3), (24, 25, 1, .aload_n 0), (25, 28, 3, .getfield 31), (28, 31, 3, .getfield 38), (31, 32, 1, .iload_n 1), (32, 33, 1, .iaload), (33, 35, 2, .istore 4), (35, 37, 2, .iload 4), (37, 38, 1, .aload_n 0), (38, 41, 3, .getfield 31), (41, 44, 3, .getfield 38), (44, 45, 1, .iload_n 1), (45, 46, 1, .iconst 1), (46, 47, 1, .iadd), (47, 48, 1, .iaload), (48, 51, 3, .if_icmp .ge 80), (51, 52, 1, .aload_n 0), (52, 55, 3, .getfield 31), (55, 58, 3, .getfield 43), (58, 60, 2, .iload 4), (60, 61, 1, .iaload), (61, 63, 2, .istore 5), (63, 65, 2, .iload 5), (65, 68, 3, .ifCond .ge 24), (68, 69, 1, .aload_n 0), (69, 72, 3, .getfield 25), (72, 73, 1, .iload_n 2), (73, 76, 3, .iinc 2 1), (76, 77, 1, .aload_n 0), (77, 80, 3, .getfield 28), (80, 81, 1, .iconst (-1)), (81, 83, 2, .iload 5), (83, 84, 1, .isub), (84, 85, 1, .iaload), (85, 86, 1, .iastore), (86, 89, 3, .goto 36), (89, 90, 1, .aload_n 0), (90, 92, 2, .iload 5), (92, 93, 1, .iconst 1), (93, 94, 1, .ishr), (94, 95, 1, .iload_n 2), (95, 98, 3, .invokevirtual 46), (98, 99, 1, .istore_n 2), (99, 101, 2, .iload 5), (101, 102, 1, .iconst 1), (102, 103, 1, .iand), (103, 104, 1, .iconst 1), (104, 107, 3, .if_icmp .ne 18), (107, 108, 1, .aload_n 0), (108, 111, 3, .getfield 28), (111, 112, 1, .iload_n 3), (112, 115, 3, .iinc 3 1), (115, 116, 1, .aload_n 0), (116, 119, 3, .getfield 35), (119, 120, 1, .iconst 1), (120, 121, 1, .isub), (121, 122, 1, .iastore), (122, 125, 3, .iinc 4 1), (125, 128, 3, .goto (-90)), (128, 129, 1, .aload_n 0), (129, 130, 1, .areturn)]
def ilX0_isRow : IL := [(0, 1, 1, .aload_n 0), (1, 2, 1, .iload_n 1), (2, 5, 3, .invokevirtual 274), (5, 8, 3, .ifCond .eq 26), (8, 9, 1, .iload_n 2), (9, 12, 3, .ifCond .lt 22), (12, 13, 1, .iload_n 2), (13, 14, 1, .aload_n 0), (14, 17, 3, .getfield 72), (17, 18, 1, .iload_n 1), (18, 21, 3, .invokevirtual 277), (21, 24, 3, .getfield 281), (24, 27, 3, .if_icmp .ge 7), (27, 28, 1, .iconst 1), (28, 31, 3, .goto 4), (31, 32, 1, .iconst 0), (32, 33, 1, .ireturn)]
def ilX8_many : IL := [(0, 1, 1, .aload_n 0), (1, 4, 3, .getfield 19), (4, 5, 1, .iload_n 1), (5, 6, 1, .iconst 1), (6, 7, 1, .iadd), (7, 8, 1, .iaload), (8, 9, 1, .aload_n 0), (9, 12, 3, .getfield 19), (12, 13, 1, .iload_n 1), (13, 14, 1, .iaload), (14, 15, 1, .isub), (15, 16, 1, .ireturn)]
def ilX0_from : IL := [(0, 1, 1, .aload_n 0), (1, 2, 1, .iload_n 1), (2, 3, 1, .iload_n 2), (3, 6, 3, .invokevirtual 283), (6, 9, 3, .ifCond .eq 41), (9, 10, 1, .iload_n 3), (10, 13, 3, .ifCond .lt 37), (13, 14, 1, .iload_n 3), (14, 15, 1, .aload_n 0), (15, 18, 3, .getfield 72), (18, 19, 1, .iload_n 2), (19, 22, 3, .invokevirtual 290), (22, 25, 3, .if_icmp .ge 25), (25, 26, 1, .aload_n 0), (26, 29, 3, .getfield 72), (29, 32, 3, .getfield 293), (32, 33, 1, .aload_n 0), (33, 36, 3, .getfield 72), (36, 39, 3, .getfield 296), (39, 40, 1, .iload_n 2), (40, 41, 1, .iaload), (41, 42, 1, .iload_n 3), (42, 43, 1, .iadd), (43, 44, 1, .iaload), (44, 47, 3, .goto 4), (47, 48, 1, .iconst (-1)), (48, 49, 1, .ireturn)]
def ilX0_give : IL := [(0, 1, 1, .iload_n 1), (1, 4, 3, .ifCond .ne 6), (4, 6, 2, .bipush (-2)), (6, 7, 1, .ireturn), (7, 8, 1, .aload_n 0), (8, 11, 3, .getfield 91), (11, 12, 1, .iconst 0), (12, 13, 1, .aload_n 0), (13, 16, 3, .getfield 87), (16, 17, 1, .iconst 0), (17, 18, 1, .aload_n 0), (18, 21, 3, .getfield 299), (21, 24, 3, .invokestatic 317), (24, 25, 1, .aload_n 0), (25, 26, 1, .aload_n 0), (26, 29, 3, .getfield 299), (29, 32, 3, .putfield 323), (32, 33, 1, .aload_n 0), (33, 36, 3, .getfield 323), (36, 37, 1, .ireturn)]
def ilX0_hypothesis : IL := [(0, 1, 1, .aload_n 0), (1, 2, 1, .iload_n 1), (2, 5, 3, .invokevirtual 251), (5, 8, 3, .ifCond .eq 31), (8, 9, 1, .iload_n 2), (9, 12, 3, .ifCond .lt 27), (12, 13, 1, .iload_n 2), (13, 14, 1, .aload_n 0), (14, 17, 3, .getfield 40), (17, 18, 1, .iload_n 1), (18, 21, 3, .invokevirtual 252), (21, 24, 3, .if_icmp .ge 15), (24, 25, 1, .aload_n 0), (25, 28, 3, .getfield 40), (28, 29, 1, .iload_n 1), (29, 30, 1, .iload_n 2), (30, 33, 3, .invokevirtual 266), (33, 36, 3, .goto 4), (36, 37, 1, .iconst (-1)), (37, 38, 1, .ireturn)]
def ilX10_part : IL := [(0, 1, 1, .aload_n 0), (1, 4, 3, .getfield 27), (4, 5, 1, .iload_n 1), (5, 6, 1, .iaload), (6, 7, 1, .iload_n 2), (7, 8, 1, .iadd), (8, 9, 1, .ireturn)]
def ilX0_isNodeWell : IL := [(0, 1, 1, .aload_n 0), (1, 4, 3, .getfield 97), (4, 7, 3, .getfield 402), (7, 8, 1, .iload_n 1), (8, 9, 1, .iaload), (9, 10, 1, .istore_n 2), (10, 11, 1, .aload_n 0), (11, 14, 3, .getfield 97), (14, 17, 3, .getfield 482), (17, 18, 1, .iload_n 1), (18, 19, 1, .iaload), (19, 20, 1, .istore_n 3), (20, 21, 1, .iconst 1), (21, 23, 2, .istore 4), (23, 24, 1, .aload_n 0), (24, 27, 3, .getfield 107), (27, 30, 3, .getfield 532), (30, 31, 1, .iload_n 2), (31, 32, 1, .iaload), (32, 34, 2, .istore 5), (34, 36, 2, .iload 5), (36, 37, 1, .aload_n 0), (37, 40, 3, .getfield 107), (40, 43, 3, .getfield 532), (43, 44, 1, .iload_n 2), (44, 45, 1, .iconst 1), (45, 46, 1, .iadd), (46, 47, 1, .iaload), (47, 50, 3, .if_icmp .ge 112), (50, 51, 1, .aload_n 0), (51, 54, 3, .getfield 107), (54, 57, 3, .getfield 535), (57, 59, 2, .iload 5), (59, 60, 1, .iaload), (60, 62, 2, .istore 6), (62, 64, 2, .iload 4), (64, 66, 2, .iload 6), (66, 69, 3, .ifCond .ge 27), (69, 70, 1, .aload_n 0), (70, 73, 3, .getfield 107), (73, 76, 3, .getfield 526), (76, 77, 1, .iload_n 3), (77, 78, 1, .iaload), (78, 79, 1, .iconst (-1)), (79, 81, 2, .iload 6), (81, 82, 1, .isub), (82, 85, 3, .if_icmp .ne 7), (85, 86, 1, .iconst 1), (86, 89, 3, .goto 34), (89, 90, 1, .iconst 0), (90, 93, 3, .goto 30), (93, 94, 1, .aload_n 0), (94, 97, 3, .getfield 97), (97, 100, 3, .getfield 482), (100, 101, 1, .aload_n 0), (101, 104, 3, .getfield 97), (104, 105, 1, .iload_n 1), (105, 107, 2, .iload 6), (107, 110, 3, .invokevirtual 414), (110, 111, 1, .iaload), (111, 112, 1, .iload_n 3), (112, 115, 3, .if_icmp .ne 7), (115, 116, 1, .iconst 1), (116, 119, 3, .goto 4), (119, 120, 1, .iconst 0), (120, 121, 1, .iand), (121, 123, 2, .istore 4), (123, 125, 2, .iload 6), (125, 128, 3, .ifCond .ge 9), (128, 129, 1, .iload_n 3), (129, 130, 1, .iconst 1), (130, 131, 1, .iadd), (131, 134, 3, .goto 21), (134, 135, 1, .aload_n 0), (135, 138, 3, .getfield 97), (138, 141, 3, .getfield 485), (141, 142, 1, .aload_n 0), (142, 145, 3, .getfield 97), (145, 146, 1, .iload_n 1), (146, 148, 2, .iload 6), (148, 151, 3, .invokevirtual 414), (151, 152, 1, .iaload), (152, 153, 1, .istore_n 3), (153, 156, 3, .iinc 5 1), (156, 159, 3, .goto (-122)), (159, 161, 2, .iload 4), (161, 164, 3, .ifCond .eq 20), (164, 165, 1, .iload_n 3), (165, 166, 1, .aload_n 0), (166, 169, 3, .getfield 97), (169, 172, 3, .getfield 485), (172, 173, 1, .iload_n 1), (173, 174, 1, .iaload), (174, 177, 3, .if_icmp .ne 7), (177, 178, 1, .iconst 1), (178, 181, 3, .goto 4), (181, 182, 1, .iconst 0), (182, 183, 1, .ireturn)]
def kJ9_fill_5_609_l5 (v1 : Int) (v3 : Int) (K : NW → OR) : Nat → Int → NW → OR
  | 0, _, _ => none
  | n + 1, v2, N => if v3 ≤ v2 then (K N) else (ck ((0 ≤ v2 ∧ v2 < 101) ∧ -128 ≤ v1 ∧ v1 < 128) (lt (up2 N 609 v2 v1) (fun N2 => kJ9_fill_5_609_l5 v1 v3 K n (w32 (v2 + 1)) N2)))
def kJ9_fill_5_609 (n : Nat) (a1 : Int) (N : NW) : OR :=
  kJ9_fill_5_609_l5 a1 101 (fun (N4 : NW) => (some (0, N4) : OR)) n 0 N
def kX3_isAssertion (n : Nat) (a1 : Int) (N : NW) : OR :=
  ck (0 ≤ a1 ∧ a1 < 1500) (some (if (N 524 a1) ≤ 1 then (0 : Int) else 1, N))
def kX3_size (n : Nat) (N : NW) : OR :=
  bn (kJ7_size_520 n N) (fun r1 N2 => some (r1, N2))
def kX3_isIn (n : Nat) (a1 : Int) (N : NW) : OR :=
  if a1 < 0 then (some (0, N)) else (bn (kX3_size n N) (fun r1 N2 => if r1 ≤ a1 then (some (0, N2)) else (some (1, N2))))
def kX0_isAssertion (n : Nat) (a1 : Int) (N : NW) : OR :=
  bn (kX3_isIn n a1 N) (fun r1 N2 => if r1 = 0 then (some (0, N2)) else (bn (kX3_isAssertion n a1 N2) (fun r4 N5 => if r4 = 0 then (some (0, N5)) else (some (1, N5)))))
def kX3_isPair_l11 (v1 : Int) (v2 : Int) (v3 : Int) (K : Int → NW → OR) : Nat → Int → Int → NW → OR
  | 0, _, _, _ => none
  | n + 1, v4, v5, N => ck (0 ≤ (w32 (v1 + 1)) ∧ (w32 (v1 + 1)) < 1501) (if (N 530 (w32 (v1 + 1))) ≤ v5 then (K v4 N) else (ck (0 ≤ v5 ∧ v5 < 20000) (lt (fun (s4 : Int) (N5 : NW) => (kX3_isPair_l11 v1 v2 v3 K n (iOr v4 s4) (w32 (v5 + 1)) N5 : OR)) (fun (J6 : Int → NW → OR) => lt (fun (N7 : NW) => (J6 0 N7 : OR)) (fun (J8 : NW → OR) => if (N 531 v5) = (iMin v2 v3) then (ck (0 ≤ v5 ∧ v5 < 20000) (if (N 532 v5) = (iMax v2 v3) then (J6 1 N) else (J8 N))) else (J8 N))))))
def kX3_isPair (n : Nat) (a1 : Int) (a2 : Int) (a3 : Int) (N : NW) : OR :=
  ck (0 ≤ a1 ∧ a1 < 1501) (kX3_isPair_l11 a1 a2 a3 (fun (x4_13 : Int) (N14 : NW) => (ck ((0 : Int) ≤ x4_13 ∧ x4_13 < 2) (some (x4_13, N14)) : OR)) n 0 (N 530 a1) N)
def kX0_apart (n : Nat) (a1 : Int) (a2 : Int) (a3 : Int) (N : NW) : OR :=
  bn (kX0_isAssertion n a1 N) (fun r1 N2 => if r1 = 0 then (some ((-1), N2)) else (bn (kX3_isPair n a1 a2 a3 N2) (fun r4 N5 => if r4 = 0 then (some (0, N5)) else (some (1, N5)))))
def kX0_isBound_l12 (v1 : Int) (K : Int → NW → OR) : Nat → Int → Int → NW → OR
  | 0, _, _, _ => none
  | n + 1, v2, v3, N => ck (0 ≤ (w32 (v1 + 1)) ∧ (w32 (v1 + 1)) < 1501) (if (N 526 (w32 (v1 + 1))) ≤ v3 then (K v2 N) else (ck (0 ≤ v3 ∧ v3 < 30000) (ck (0 ≤ (N 527 v3) ∧ (N 527 v3) < 1000) (lt (fun (s5 : Int) (N6 : NW) => (kX0_isBound_l12 v1 K n (iAnd v2 s5) (w32 (v3 + 1)) N6 : OR)) (fun (J7 : Int → NW → OR) => lt (fun (N8 : NW) => (J7 1 N8 : OR)) (fun (J9 : NW → OR) => if (N 521 (N 527 v3)) = 0 then (ck (0 ≤ (N 527 v3) ∧ (N 527 v3) < 1000) (J7 (if (N 641 (N 527 v3)) < 0 then (0 : Int) else 1) N)) else (J9 N)))))))
def kX0_isBound (n : Nat) (a1 : Int) (N : NW) : OR :=
  ck (0 ≤ a1 ∧ a1 < 1501) (kX0_isBound_l12 a1 (fun (x2_15 : Int) (N16 : NW) => (ck ((0 : Int) ≤ x2_15 ∧ x2_15 < 2) (some (x2_15, N16)) : OR)) n 1 (N 526 a1) N)
def kX3_hypothesis (n : Nat) (a1 : Int) (a2 : Int) (N : NW) : OR :=
  ck (0 ≤ a1 ∧ a1 < 1501) (ck (0 ≤ (w32 ((N 528 a1) + a2)) ∧ (w32 ((N 528 a1) + a2)) < 120000) (some (N 529 (w32 ((N 528 a1) + a2)), N)))
def kX3_mandatory (n : Nat) (a1 : Int) (N : NW) : OR :=
  ck (0 ≤ (w32 (a1 + 1)) ∧ (w32 (a1 + 1)) < 1501) (ck (0 ≤ a1 ∧ a1 < 1501) (some (w32 ((N 528 (w32 (a1 + 1))) - (N 528 a1)), N)))
def kX0_areBound_l4 (v1 : Int) (K : Int → NW → OR) : Nat → Int → Int → NW → OR
  | 0, _, _, _ => none
  | n + 1, v2, v3, N => bn (kX3_mandatory n v1 N) (fun r1 N2 => if r1 ≤ v3 then (K v2 N2) else (bn (kX3_hypothesis n v1 v3 N2) (fun r4 N5 => ck (0 ≤ r4 ∧ r4 < 1500) (lt (fun (s8 : Int) (N9 : NW) => (kX0_areBound_l4 v1 K n (iAnd v2 s8) (w32 (v3 + 1)) N9 : OR)) (fun (J10 : Int → NW → OR) => lt (fun (N11 : NW) => (J10 1 N11 : OR)) (fun (J12 : NW → OR) => if (N5 524 r4) = 0 then (J12 N5) else (bn (kX0_isBound n r4 N5) (fun r13 N14 => J10 (if r13 = 0 then (0 : Int) else 1) N14))))))))
def kX0_areBound (n : Nat) (a1 : Int) (N : NW) : OR :=
  kX0_areBound_l4 a1 (fun (x2_20 : Int) (N21 : NW) => (ck ((0 : Int) ≤ x2_20 ∧ x2_20 < 2) (some (x2_20, N21)) : OR)) n 1 0 N
def kX0_character (n : Nat) (a1 : Int) (N : NW) : OR :=
  if a1 < 0 then (some ((-1), N)) else (if (N 512 11) ≤ a1 then (some ((-1), N)) else (ck (0 ≤ a1 ∧ a1 < 24000) (some (N 573 a1, N))))
def kX0_countFlags_521_l5 (v2 : Int) (K : Int → NW → OR) : Nat → Int → Int → NW → OR
  | 0, _, _, _ => none
  | n + 1, v3, v4, N => if v2 ≤ v4 then (K v3 N) else (ck (0 ≤ v4 ∧ v4 < 1000) (lt (w32 (v3 + (if (N 521 v4) = 0 then (0 : Int) else 1))) (fun x3_2 => kX0_countFlags_521_l5 v2 K n x3_2 (w32 (v4 + 1)) N)))
def kX0_countFlags_521 (n : Nat) (a2 : Int) (N : NW) : OR :=
  kX0_countFlags_521_l5 a2 (fun (x3_6 : Int) (N7 : NW) => (some (x3_6, N7) : OR)) n 0 0 N
def kX0_countFlags_525_l5 (v2 : Int) (K : Int → NW → OR) : Nat → Int → Int → NW → OR
  | 0, _, _, _ => none
  | n + 1, v3, v4, N => if v2 ≤ v4 then (K v3 N) else (ck (0 ≤ v4 ∧ v4 < 1500) (lt (w32 (v3 + (if (N 525 v4) = 0 then (0 : Int) else 1))) (fun x3_2 => kX0_countFlags_525_l5 v2 K n x3_2 (w32 (v4 + 1)) N)))
def kX0_countFlags_525 (n : Nat) (a2 : Int) (N : NW) : OR :=
  kX0_countFlags_525_l5 a2 (fun (x3_6 : Int) (N7 : NW) => (some (x3_6, N7) : OR)) n 0 0 N
def kX0_countKind_l4 (v1 : Int) (K : Int → NW → OR) : Nat → Int → Int → NW → OR
  | 0, _, _, _ => none
  | n + 1, v2, v3, N => bn (kX3_size n N) (fun r1 N2 => if r1 ≤ v3 then (K v2 N2) else (ck (0 ≤ v3 ∧ v3 < 1500) (lt (w32 (v2 + (if (N2 524 v3) = v1 then (1 : Int) else 0))) (fun x2_5 => kX0_countKind_l4 v1 K n x2_5 (w32 (v3 + 1)) N2))))
def kX0_countKind (n : Nat) (a1 : Int) (N : NW) : OR :=
  kX0_countKind_l4 a1 (fun (x2_9 : Int) (N10 : NW) => (some (x2_9, N10) : OR)) n 0 0 N
def kX0_count (n : Nat) (a1 : Int) (N : NW) : OR :=
  bn (kX3_size n N) (fun r1 N2 => if a1 = 0 then (some (r1, N2)) else (if a1 = 1 then (bn (kJ7_size_519 n N2) (fun r6 N7 => some (r6, N7))) else (if a1 = 2 then (bn (kJ7_size_519 n N2) (fun r10 N11 => bn (kX0_countFlags_521 n r10 N11) (fun r13 N14 => some (r13, N14)))) else (if a1 = 3 then (bn (kX0_countKind n (w32 (a1 - 3)) N2) (fun r17 N18 => some (r17, N18))) else (if a1 = 4 then (bn (kX0_countKind n (w32 (a1 - 3)) N2) (fun r21 N22 => some (r21, N22))) else (if a1 = 5 then (bn (kX0_countKind n (w32 (a1 - 3)) N2) (fun r25 N26 => some (r25, N26))) else (if a1 = 6 then (bn (kX0_countKind n (w32 (a1 - 3)) N2) (fun r29 N30 => some (r29, N30))) else (if a1 = 7 then (bn (kX0_countFlags_525 n r1 N2) (fun r33 N34 => some (r33, N34))) else (if a1 = 8 then (ck (0 ≤ r1 ∧ r1 < 1501) (some (N2 533 r1, N2))) else (if a1 = 9 then (ck (0 ≤ r1 ∧ r1 < 1501) (some (N2 530 r1, N2))) else (some ((-1), N2))))))))))))
def kX0_end (n : Nat) (a1 : Int) (N : NW) : OR :=
  if (N 512 8) = 0 then (some ((-1), N)) else (if a1 < 0 then (some ((-1), N)) else (if a1 ≤ 19 then (lt (up2 N 512 8 0) (fun N1 => lt (up2 N1 514 1 (w32 ((N1 514 1) - (w32 (20 - a1))))) (fun N2 => some (N2 514 1, N2)))) else (some ((-1), N))))
def kX0_put_l3 (v1 : Int) (K : NW → OR) : Nat → Int → NW → OR
  | 0, _, _ => none
  | n + 1, v2, N => if v2 < 0 then (K N) else (lt (up2 N 514 1 (w32 ((N 514 1) + 1))) (fun N1 => ck ((0 ≤ (N 514 1) ∧ (N 514 1) < 60032) ∧ -128 ≤ (i2B (iShr v1 v2)) ∧ (i2B (iShr v1 v2)) < 128) (lt (up2 N1 515 (N 514 1) (i2B (iShr v1 v2))) (fun N3 => kX0_put_l3 v1 K n (w32 (v2 + (-8))) N3))))
def kX0_put (n : Nat) (a1 : Int) (N : NW) : OR :=
  kX0_put_l3 a1 (fun (N5 : NW) => (some (0, N5) : OR)) n 24 N
def kX0_feed (n : Nat) (a1 : Int) (a2 : Int) (a3 : Int) (a4 : Int) (a5 : Int) (N : NW) : OR :=
  lt (up2 N 512 8 0) (fun N1 => if (w32 ((N1 514 1) + 20)) ≤ 60000 then (bn (kX0_put n a1 N1) (fun r2 N3 => bn (kX0_put n a2 N3) (fun r5 N6 => bn (kX0_put n a3 N6) (fun r8 N9 => bn (kX0_put n a4 N9) (fun r11 N12 => bn (kX0_put n a5 N12) (fun r14 N15 => lt (up2 N15 512 8 1) (fun N17 => some (N17 514 1, N17)))))))) else (some ((-2), N1)))
def kX0_floatingOf_l5 (v1 : Int) (v2 : Int) (K : Int → NW → OR) : Nat → Int → Int → NW → OR
  | 0, _, _, _ => none
  | n + 1, v3, v4, N => bn (kX3_mandatory n v1 N) (fun r1 N2 => if r1 ≤ v4 then (K v3 N2) else (bn (kX3_hypothesis n v1 v4 N2) (fun r4 N5 => ck (0 ≤ r4 ∧ r4 < 1500) (lt (fun (s8 : Int) (N9 : NW) => (kX0_floatingOf_l5 v1 v2 K n s8 (w32 (v4 + 1)) N9 : OR)) (fun (J10 : Int → NW → OR) => lt (fun (N11 : NW) => (J10 v3 N11 : OR)) (fun (J12 : NW → OR) => if (N5 524 r4) = 0 then (ck (0 ≤ r4 ∧ r4 < 1501) (ck (0 ≤ (w32 ((N5 526 r4) + 1)) ∧ (w32 ((N5 526 r4) + 1)) < 30000) (if (N5 527 (w32 ((N5 526 r4) + 1))) = v2 then (J10 r4 N5) else (J12 N5)))) else (J12 N5)))))))
def kX0_floatingOf (n : Nat) (a1 : Int) (a2 : Int) (N : NW) : OR :=
  kX0_floatingOf_l5 a1 a2 (fun (x3_18 : Int) (N19 : NW) => (some (x3_18, N19) : OR)) n (-1) 0 N
def kX0_forget (n : Nat) (N : NW) : OR :=
  lt (up2 N 622 1 (-1)) (fun N1 => some (0, N1))
def kX0_isProved (n : Nat) (a1 : Int) (N : NW) : OR :=
  bn (kX3_isIn n a1 N) (fun r1 N2 => if r1 = 0 then (some (0, N2)) else (ck (0 ≤ a1 ∧ a1 < 1500) (if (N2 524 a1) = 3 then (ck (0 ≤ a1 ∧ a1 < 1500) (if (N2 525 a1) = 0 then (some (1, N2)) else (some (0, N2)))) else (some (0, N2)))))
def kX8_make (n : Nat) (a1 : Int) (a2 : Int) (N : NW) : OR :=
  bn (kX3_isAssertion n a1 N) (fun r1 N2 => lt (fun (s4 : Int) (N5 : NW) => (ck (0 ≤ (N5 566 5) ∧ (N5 566 5) < 20000) (lt (up2 N5 567 (N5 566 5) a1) (fun N8 => ck (0 ≤ (N8 566 5) ∧ (N8 566 5) < 20001) (ck (0 ≤ (w32 ((N8 566 5) + 1)) ∧ (w32 ((N8 566 5) + 1)) < 20001) (lt (up2 N8 568 (w32 ((N8 566 5) + 1)) (w32 ((N8 568 (N8 566 5)) + s4))) (fun N11 => ck (0 ≤ (N11 566 5) ∧ (N11 566 5) < 20001) (ck (0 ≤ (w32 (a2 - s4)) ∧ 0 ≤ (N11 568 (N11 566 5)) ∧ 0 ≤ s4 ∧ (w32 (a2 - s4)) + s4 ≤ 202 ∧ (N11 568 (N11 566 5)) + s4 ≤ 20000) (lt (cpN N11 570 569 (w32 (a2 - s4)) (N11 568 (N11 566 5)) s4) (fun N14 => lt (up2 N14 566 5 (w32 ((N14 566 5) + 1))) (fun N15 => ck (0 ≤ (w32 (a2 - s4)) ∧ (w32 (a2 - s4)) < 202) (lt (up2 N15 570 (w32 (a2 - s4)) (N14 566 5)) (fun N17 => some (w32 ((w32 (a2 - s4)) + 1), N17)))))))))))) : OR)) (fun (J6 : Int → NW → OR) => if r1 = 0 then (J6 0 N2) else (bn (kX3_mandatory n a1 N2) (fun r18 N19 => J6 r18 N19))))
def kX8_of_l35 (v1 : Int) (K : NW → OR) : Nat → Int → Int → Int → NW → OR
  | 0, _, _, _, _ => none
  | n + 1, v2, v3, v4, N => ck (0 ≤ (w32 (v1 + 1)) ∧ (w32 (v1 + 1)) < 1501) (if (N 533 (w32 (v1 + 1))) ≤ v4 then (K N) else (ck (0 ≤ v4 ∧ v4 < 20000) (lt (fun (x2_6 : Int) (x3_7 : Int) (N8 : NW) => (kX8_of_l35 v1 K n x2_6 x3_7 (w32 (v4 + 1)) N8 : OR)) (fun (J9 : Int → Int → NW → OR) => if 0 ≤ (N 534 v4) then (bn (kX8_make n (iShr (N 534 v4) 1) v2 N) (fun r10 N11 => if (iAnd (N 534 v4) 1) = 1 then (ck (0 ≤ v3 ∧ v3 < 300) (lt (up2 N11 571 v3 (w32 ((N11 566 5) - 1))) (fun N14 => J9 r10 (w32 (v3 + 1)) N14))) else (J9 r10 v3 N11))) else (ck (0 ≤ (w32 ((-1) - (N 534 v4))) ∧ (w32 ((-1) - (N 534 v4))) < 300) (ck (0 ≤ v2 ∧ v2 < 202) (lt (up2 N 570 v2 (N 571 (w32 ((-1) - (N 534 v4))))) (fun N18 => J9 (w32 (v2 + 1)) v3 N18))))))))
def kX8_of (n : Nat) (a1 : Int) (N : NW) : OR :=
  if (N 566 1) = a1 then (some (0, N)) else (lt (up2 N 566 1 a1) (fun N1 => lt (up2 N1 566 5 0) (fun N2 => ck (0 ≤ a1 ∧ a1 < 1501) (kX8_of_l35 a1 (fun (N21 : NW) => (some (0, N21) : OR)) n 0 0 (N2 533 a1) N2))))
def kX0_isRow (n : Nat) (a1 : Int) (a2 : Int) (N : NW) : OR :=
  bn (kX0_isProved n a1 N) (fun r1 N2 => if r1 = 0 then (some (0, N2)) else (if a2 < 0 then (some (0, N2)) else (bn (kX8_of n a1 N2) (fun r4 N5 => if (N5 566 5) ≤ a2 then (some (0, N5)) else (some (1, N5))))))
def kX8_many (n : Nat) (a1 : Int) (N : NW) : OR :=
  ck (0 ≤ (w32 (a1 + 1)) ∧ (w32 (a1 + 1)) < 20001) (ck (0 ≤ a1 ∧ a1 < 20001) (some (w32 ((N 568 (w32 (a1 + 1))) - (N 568 a1)), N)))
def kX0_from (n : Nat) (a1 : Int) (a2 : Int) (a3 : Int) (N : NW) : OR :=
  bn (kX0_isRow n a1 a2 N) (fun r1 N2 => if r1 = 0 then (some ((-1), N2)) else (if a3 < 0 then (some ((-1), N2)) else (bn (kX8_many n a2 N2) (fun r4 N5 => if r4 ≤ a3 then (some ((-1), N5)) else (ck (0 ≤ a2 ∧ a2 < 20001) (ck (0 ≤ (w32 ((N5 568 a2) + a3)) ∧ (w32 ((N5 568 a2) + a3)) < 20000) (some (N5 569 (w32 ((N5 568 a2) + a3)), N5))))))))
def kX0_give (n : Nat) (a1 : Int) (N : NW) : OR :=
  if a1 = 0 then (some ((-2), N)) else (ck (0 ≤ (0 : Int) ∧ 0 ≤ (0 : Int) ∧ 0 ≤ (N 512 13) ∧ (0 : Int) + (N 512 13) ≤ 24000 ∧ (0 : Int) + (N 512 13) ≤ 24000) (lt (cpN N 574 573 0 0 (N 512 13)) (fun N2 => lt (up2 N2 512 11 (N2 512 13)) (fun N3 => some (N3 512 11, N3)))))
def kX0_hypothesis (n : Nat) (a1 : Int) (a2 : Int) (N : NW) : OR :=
  bn (kX0_isAssertion n a1 N) (fun r1 N2 => if r1 = 0 then (some ((-1), N2)) else (if a2 < 0 then (some ((-1), N2)) else (bn (kX3_mandatory n a1 N2) (fun r4 N5 => if r4 ≤ a2 then (some ((-1), N5)) else (bn (kX3_hypothesis n a1 a2 N5) (fun r7 N8 => some (r7, N8)))))))
def kX10_part_575 (n : Nat) (a1 : Int) (a2 : Int) (N : NW) : OR :=
  ck (0 ≤ a1 ∧ a1 < 12000) (some (w32 ((N 581 a1) + a2), N))
def kX0_isNodeWell_l34 (v1 : Int) (v2 : Int) (K : Int → Int → NW → OR) : Nat → Int → Int → Int → NW → OR
  | 0, _, _, _, _ => none
  | n + 1, v3, v4, v5, N => ck (0 ≤ (w32 (v2 + 1)) ∧ (w32 (v2 + 1)) < 1501) (if (N 592 (w32 (v2 + 1))) ≤ v5 then (K v3 v4 N) else (ck (0 ≤ v5 ∧ v5 < 30000) (lt (fun (s6 : Int) (N7 : NW) => (lt (fun (s9 : Int) (N10 : NW) => (kX0_isNodeWell_l34 v1 v2 K n s9 (iAnd v4 s6) (w32 (v5 + 1)) N10 : OR)) (fun (J11 : Int → NW → OR) => if 0 ≤ (N 593 v5) then (bn (kX10_part_575 n v1 (N 593 v5) N7) (fun r12 N13 => ck (0 ≤ r12 ∧ r12 < 12000) (J11 (N13 578 r12) N13))) else (J11 (w32 (v3 + 1)) N7)) : OR)) (fun (J8 : Int → NW → OR) => if 0 ≤ (N 593 v5) then (bn (kX10_part_575 n v1 (N 593 v5) N) (fun r17 N18 => ck (0 ≤ r17 ∧ r17 < 12000) (if (N18 577 r17) = v3 then (J8 1 N18) else (J8 0 N18)))) else (ck (0 ≤ v3 ∧ v3 < 60) (if (N 602 v3) = (w32 ((-1) - (N 593 v5))) then (J8 1 N) else (J8 0 N)))))))
def kX0_isNodeWell (n : Nat) (a1 : Int) (N : NW) : OR :=
  ck (0 ≤ a1 ∧ a1 < 12000) (ck (0 ≤ a1 ∧ a1 < 12000) (ck (0 ≤ (N 579 a1) ∧ (N 579 a1) < 1501) (kX0_isNodeWell_l34 a1 (N 579 a1) (fun (x3_26 : Int) (x4_27 : Int) (N28 : NW) => (if x4_27 = 0 then (some (0, N28)) else (ck (0 ≤ a1 ∧ a1 < 12000) (if x3_26 = (N28 578 a1) then (some (1, N28)) else (some (0, N28)))) : OR)) n (N 577 a1) 1 (N 592 (N 579 a1)) N)))
end

section
set_option maxRecDepth 100000
def ilX0_sizeOf : IL := [(0, 1, 1, .aload_n 0), (1, 4, 3, .getfield 72), (4, 5, 1, .iload_n 1), (5, 8, 3, .invokevirtual 277), (8, 9, 1, .pop), (9, 10, 1, .iconst 0), (10, 11, 1, .istore_n 2), (11, 12, 1, .iload_n 2), (12, 13, 1, .aload_n 0), (13, 16, 3, .getfield 72), (16, 19, 3, .getfield 281), (19, 22, 3, .if_icmp .ge 80), (22, 23, 1, .aload_n 0), (23, 26, 3, .getfield 134), (26, 27, 1, .iload_n 2), (27, 28, 1, .lconst 1), (28, 29, 1, .lastore), (29, 30, 1, .aload_n 0), (30, 33, 3, .getfield 72), (33, 36, 3, .getfield 296), (36, 37, 1, .iload_n 2), (37, 38, 1, .iaload), (38, 39, 1, .istore_n 3), (39, 40, 1, .iload_n 3), (40, 41, 1, .aload_n 0), (41, 44, 3, .getfield 72), (44, 47, 3, .getfield 296), (47, 48, 1, .iload_n 2), (48, 49, 1, .iconst 1), (49, 50, 1, .iadd), (50, 51, 1, .iaload), (51, 54, 3, .if_icmp .ge 42), (54, 55, 1, .aload_n 0), (55, 58, 3, .getfield 134), (58, 59, 1, .iload_n 2), (59, 62, 3, .ldc2_w 361), (62, 63, 1, .aload_n 0), (63, 66, 3, .getfield 134), (66, 67, 1, .iload_n 2), (67, 68, 1, .laload), (68, 69, 1, .aload_n 0), (69, 72, 3, .getfield 134), (72, 73, 1, .aload_n 0), (73, 76, 3, .getfield 72), (76, 79, 3, .getfield 293), (79, 80, 1, .iload_n 3), (80, 81, 1, .iaload), (81, 82, 1, .laload), (82, 83, 1, .ladd), (83, 86, 3, .invokestatic 363), (86, 87, 1, .lastore), (87, 90, 3, .iinc 3 1), (90, 93, 3, .goto (-51)), (93, 96, 3, .iinc 2 1), (96, 99, 3, .goto (-85)), (99, 100, 1, .aload_n 0), (100, 103, 3, .getfield 134), (103, 104, 1, .aload_n 0), (104, 107, 3, .getfield 72), (107, 110, 3, .getfield 281), (110, 111, 1, .iconst 1), (111, 112, 1, .isub), (112, 113, 1, .laload), (113, 114, 1, .lstore_n 2), (114, 115, 1, .lload_n 2), (115, 118, 3, .ldc2_w 369), (118, 119, 1, .lcmp), (119, 122, 3, .ifCond .le 9), (122, 125, 3, .ldc2_w 371), (125, 128, 3, .goto 4), (128, 129, 1, .lload_n 2), (129, 130, 1, .lreturn)]
def ilX13_many : IL := [(0, 1, 1, .aload_n 0), (1, 4, 3, .getfield 19), (4, 5, 1, .iload_n 1), (5, 6, 1, .iconst 1), (6, 7, 1, .iadd), (7, 8, 1, .iaload), (8, 9, 1, .aload_n 0), (9, 12, 3, .getfield 19), (12, 13, 1, .iload_n 1), (13, 14, 1, .iaload), (14, 15, 1, .isub), (15, 16, 1, .ireturn)]
def ilX13_isSame : IL := [(0, 1, 1, .aload_n 0), (1, 4, 3, .getfield 15), (4, 5, 1, .iload_n 1), (5, 6, 1, .iaload), (6, 7, 1, .aload_n 0), (7, 10, 3, .getfield 15), (10, 11, 1, .aload_n 0), (11, 14, 3, .getfield 65), (14, 15, 1, .iaload), (15, 18, 3, .if_icmp .ne 7), (18, 19, 1, .iconst 1), (19, 22, 3, .goto 4), (22, 23, 1, .iconst 0), (23, 24, 1, .istore_n 2), (24, 25, 1, .iconst 0), (25, 26, 1, .istore_n 3), (26, 27, 1, .iload_n 3), (27, 28, 1, .aload_n 0), (28, 29, 1, .aload_n 0), (29, 32, 3, .getfield 65), (32, 35, 3, .invokevirtual 105), (35, 38, 3, .if_icmp .ge 51), (38, 39, 1, .iload_n 2), (39, 42, 3, .ifCond .eq 47), (42, 43, 1, .aload_n 0), (43, 46, 3, .getfield 22), (46, 47, 1, .aload_n 0), (47, 50, 3, .getfield 19), (50, 51, 1, .iload_n 1), (51, 52, 1, .iaload), (52, 53, 1, .iload_n 3), (53, 54, 1, .iadd), (54, 55, 1, .iaload), (55, 56, 1, .aload_n 0), (56, 59, 3, .getfield 22), (59, 60, 1, .aload_n 0), (60, 63, 3, .getfield 19), (63, 64, 1, .aload_n 0), (64, 67, 3, .getfield 65), (67, 68, 1, .iaload), (68, 69, 1, .iload_n 3), (69, 70, 1, .iadd), (70, 71, 1, .iaload), (71, 74, 3, .if_icmp .ne 7), (74, 75, 1, .iconst 1), (75, 78, 3, .goto 4), (78, 79, 1, .iconst 0), (79, 80, 1, .istore_n 2), (80, 83, 3, .iinc 3 1), (83, 86, 3, .goto (-57)), (86, 87, 1, .iload_n 2), (87, 88, 1, .ireturn)]
def ilX13_find : IL := [(0, 1, 1, .aload_n 0), (1, 4, 3, .getfield 15), (4, 5, 1, .aload_n 0), (5, 8, 3, .getfield 65), (8, 9, 1, .iaload), (9, 10, 1, .istore_n 1), (10, 11, 1, .aload_n 0), (11, 14, 3, .getfield 19), (14, 15, 1, .aload_n 0), (15, 18, 3, .getfield 65), (18, 19, 1, .iaload), (19, 20, 1, .istore_n 2), (20, 21, 1, .iload_n 2), (21, 22, 1, .aload_n 0), (22, 25, 3, .getfield 19), (25, 26, 1, .aload_n 0), (26, 29, 3, .getfield 65), (29, 30, 1, .iconst 1), (30, 31, 1, .iadd), (31, 32, 1, .iaload), (32, 35, 3, .if_icmp .ge 21), (35, 37, 2, .bipush 31), (37, 38, 1, .iload_n 1), (38, 39, 1, .imul), (39, 40, 1, .aload_n 0), (40, 43, 3, .getfield 22), (43, 44, 1, .iload_n 2), (44, 45, 1, .iaload), (45, 46, 1, .iadd), (46, 47, 1, .istore_n 1), (47, 50, 3, .iinc 2 1), (50, 53, 3, .goto (-30)), (53, 54, 1, .iload_n 1), (54, 55, 1, .iload_n 1), (55, 57, 2, .bipush 16), (57, 58, 1, .iushr), (58, 59, 1, .ixor), (59, 61, 2, .ldc 100), (61, 62, 1, .iand), (62, 63, 1, .istore_n 2), (63, 64, 1, .aload_n 0), (64, 67, 3, .getfield 29), (67, 68, 1, .iload_n 2), (68, 69, 1, .iaload), (69, 72, 3, .ifCond .eq 28), (72, 73, 1, .aload_n 0), (73, 74, 1, .aload_n 0), (74, 77, 3, .getfield 29), (77, 78, 1, .iload_n 2), (78, 79, 1, .iaload), (79, 80, 1, .iconst 1), (80, 81, 1, .isub), (81, 84, 3, .invokevirtual 101), (84, 87, 3, .ifCond .ne 13), (87, 88, 1, .iload_n 2), (88, 89, 1, .iconst 1), (89, 90, 1, .iadd), (90, 92, 2, .ldc 100), (92, 93, 1, .iand), (93, 94, 1, .istore_n 2), (94, 97, 3, .goto (-31)), (97, 98, 1, .aload_n 0), (98, 101, 3, .getfield 29), (101, 102, 1, .iload_n 2), (102, 103, 1, .iaload), (103, 106, 3, .ifCond .ne 15), (106, 107, 1, .aload_n 0), (107, 110, 3, .getfield 29), (110, 111, 1, .iload_n 2), (111, 112, 1, .aload_n 0), (112, 115, 3, .getfield 65), (115, 116, 1, .iconst 1), (116, 117, 1, .iadd), (117, 118, 1, .iastore), (118, 119, 1, .aload_n 0), (119, 122, 3, .getfield 29), (122, 123, 1, .iload_n 2), (123, 124, 1, .iaload), (124, 125, 1, .iconst 1), (125, 126, 1, .isub), (126, 127, 1, .ireturn)]
def ilX13_known : IL := [(0, 1, 1, .aload_n 0), (1, 4, 3, .invokevirtual 93), (4, 5, 1, .istore_n 1), (5, 6, 1, .iload_n 1), (6, 7, 1, .aload_n 0), (7, 10, 3, .getfield 65), (10, 13, 3, .if_icmp .ge 5), (13, 14, 1, .iload_n 1), (14, 15, 1, .ireturn), (15, 16, 1, .aload_n 0), (16, 17, 1, .iconst (-1)), (17, 20, 3, .putfield 9), (20, 21, 1, .iconst (-1)), (21, 22, 1, .ireturn)]
def ilX13_saves : IL := [(0, 1, 1, .aload_n 0), (1, 4, 3, .getfield 42), (4, 5, 1, .iload_n 1), (5, 6, 1, .iaload), (6, 9, 3, .ifCond .lt 19), (9, 10, 1, .aload_n 0), (10, 13, 3, .getfield 42), (13, 14, 1, .iload_n 1), (14, 15, 1, .iaload), (15, 16, 1, .iconst 1), (16, 17, 1, .iand), (17, 18, 1, .iconst 1), (18, 21, 3, .if_icmp .ne 7), (21, 22, 1, .iconst 1), (22, 25, 3, .goto 4), (25, 26, 1, .iconst 0), (26, 27, 1, .ireturn)]
def ilX13_isWell : IL := [(0, 1, 1, .iconst 0), (1, 2, 1, .istore_n 1), (2, 3, 1, .iconst 0), (3, 4, 1, .istore_n 2), (4, 5, 1, .iconst 1), (5, 6, 1, .istore_n 3), (6, 7, 1, .iconst 0), (7, 9, 2, .istore 4), (9, 11, 2, .iload 4), (11, 12, 1, .aload_n 0), (12, 15, 3, .getfield 78), (15, 18, 3, .if_icmp .ge 257), (18, 19, 1, .iload_n 3), (19, 22, 3, .ifCond .eq 253), (22, 23, 1, .aload_n 0), (23, 26, 3, .getfield 42), (26, 28, 2, .iload 4), (28, 29, 1, .iaload), (29, 32, 3, .ifCond .ge 29), (32, 33, 1, .aload_n 0), (33, 36, 3, .getfield 45), (36, 37, 1, .iload_n 1), (37, 40, 3, .iinc 1 1), (40, 41, 1, .aload_n 0), (41, 44, 3, .getfield 48), (44, 45, 1, .iconst (-1)), (45, 46, 1, .aload_n 0), (46, 49, 3, .getfield 42), (49, 51, 2, .iload 4), (51, 52, 1, .iaload), (52, 53, 1, .isub), (53, 54, 1, .iaload), (54, 55, 1, .iastore), (55, 58, 3, .goto 211), (58, 59, 1, .aload_n 0), (59, 62, 3, .getfield 57), (62, 63, 1, .aload_n 0), (63, 66, 3, .getfield 42), (66, 68, 2, .iload 4), (68, 69, 1, .iaload), (69, 70, 1, .iconst 1), (70, 71, 1, .ishr), (71, 74, 3, .invokevirtual 125), (74, 77, 3, .ifCond .eq 22), (77, 78, 1, .aload_n 0), (78, 81, 3, .getfield 57), (81, 82, 1, .aload_n 0), (82, 85, 3, .getfield 42), (85, 87, 2, .iload 4), (87, 88, 1, .iaload), (88, 89, 1, .iconst 1), (89, 90, 1, .ishr), (90, 93, 3, .invokevirtual 116), (93, 96, 3, .goto 4), (96, 97, 1, .iconst 0), (97, 99, 2, .istore 5), (99, 100, 1, .iload_n 1), (100, 102, 2, .iload 5), (102, 105, 3, .if_icmp .lt 7), (105, 106, 1, .iconst 1), (106, 109, 3, .goto 4), (109, 110, 1, .iconst 0), (110, 111, 1, .istore_n 3), (111, 112, 1, .aload_n 0), (112, 115, 3, .getfield 15), (115, 116, 1, .aload_n 0), (116, 119, 3, .getfield 65), (119, 120, 1, .aload_n 0), (120, 123, 3, .getfield 42), (123, 125, 2, .iload 4), (125, 126, 1, .iaload), (126, 127, 1, .iconst 1), (127, 128, 1, .ishr), (128, 129, 1, .iastore), (129, 130, 1, .aload_n 0), (130, 133, 3, .getfield 19), (133, 134, 1, .aload_n 0), (134, 137, 3, .getfield 65), (137, 138, 1, .iconst 1), (138, 139, 1, .iadd), (139, 140, 1, .aload_n 0), (140, 143, 3, .getfield 19), (143, 144, 1, .aload_n 0), (144, 147, 3, .getfield 65), (147, 148, 1, .iaload), (148, 149, 1, .iastore), (149, 150, 1, .iload_n 1), (150, 152, 2, .iload 5), (152, 153, 1, .isub), (153, 155, 2, .istore 6), (155, 157, 2, .iload 6), (157, 158, 1, .iload_n 1), (158, 161, 3, .if_icmp .ge 41), (161, 162, 1, .iload_n 3), (162, 165, 3, .ifCond .eq 37), (165, 166, 1, .aload_n 0), (166, 169, 3, .getfield 22), (169, 170, 1, .aload_n 0), (170, 173, 3, .getfield 19), (173, 174, 1, .aload_n 0), (174, 177, 3, .getfield 65), (177, 178, 1, .iconst 1), (178, 179, 1, .iadd), (179, 180, 1, .dup2), (180, 181, 1, .iaload), (181, 182, 1, .dup_x2), (182, 183, 1, .iconst 1), (183, 184, 1, .iadd), (184, 185, 1, .iastore), (185, 186, 1, .aload_n 0), (186, 189, 3, .getfield 45), (189, 191, 2, .iload 6), (191, 192, 1, .iaload), (192, 193, 1, .iastore), (193, 196, 3, .iinc 6 1), (196, 199, 3, .goto (-41)), (199, 200, 1, .iload_n 1), (200, 202, 2, .iload 5), (202, 203, 1, .isub), (203, 204, 1, .istore_n 1), (204, 205, 1, .iload_n 3), (205, 208, 3, .ifCond .eq 10), (208, 209, 1, .aload_n 0), (209, 212, 3, .invokevirtual 128), (212, 215, 3, .goto 4), (215, 216, 1, .iconst (-1)), (216, 218, 2, .istore 6), (218, 219, 1, .iload_n 3), (219, 221, 2, .iload 6), (221, 224, 3, .ifCond .lt 7), (224, 225, 1, .iconst 1), (225, 228, 3, .goto 4), (228, 229, 1, .iconst 0), (229, 230, 1, .iand), (230, 231, 1, .istore_n 3), (231, 232, 1, .aload_n 0), (232, 235, 3, .getfield 45), (235, 236, 1, .iconst 0), (236, 237, 1, .iload_n 1), (237, 240, 3, .invokestatic 131), (240, 242, 2, .iload 6), (242, 243, 1, .iastore), (243, 246, 3, .iinc 1 1), (246, 247, 1, .aload_n 0), (247, 249, 2, .iload 4), (249, 252, 3, .invokevirtual 136), (252, 255, 3, .ifCond .eq 14), (255, 256, 1, .aload_n 0), (256, 259, 3, .getfield 48), (259, 260, 1, .iload_n 2), (260, 263, 3, .iinc 2 1), (263, 265, 2, .iload 6), (265, 266, 1, .iastore), (266, 269, 3, .iinc 4 1), (269, 272, 3, .goto (-260)), (272, 273, 1, .iload_n 3), (273, 276, 3, .ifCond .eq 25), (276, 277, 1, .iload_n 1), (277, 278, 1, .iconst 1), (278, 281, 3, .if_icmp .ne 20), (281, 282, 1, .aload_n 0), (282, 285, 3, .getfield 45), (285, 286, 1, .iconst 0), (286, 287, 1, .iaload), (287, 288, 1, .aload_n 0), (288, 291, 3, .getfield 97), (291, 294, 3, .if_icmp .ne 7), (294, 295, 1, .iconst 1), (295, 298, 3, .goto 4), (298, 299, 1, .iconst 0), (299, 300, 1, .ireturn)]
def ilX13_findKinds : IL := [(0, 1, 1, .aload_n 0), (1, 4, 3, .getfield 29), (4, 5, 1, .iconst 0), (5, 8, 3, .invokestatic 84), (8, 9, 1, .aload_n 0), (9, 10, 1, .iconst 0), (10, 13, 3, .putfield 65), (13, 14, 1, .iconst 0), (14, 15, 1, .istore_n 2), (15, 16, 1, .iload_n 2), (16, 17, 1, .aload_n 1), (17, 20, 3, .getfield 87), (20, 23, 3, .if_icmp .ge 134), (23, 24, 1, .aload_n 0), (24, 27, 3, .getfield 15), (27, 28, 1, .aload_n 0), (28, 31, 3, .getfield 65), (31, 32, 1, .aload_n 1), (32, 35, 3, .getfield 90), (35, 36, 1, .iload_n 2), (36, 37, 1, .iaload), (37, 38, 1, .iastore), (38, 39, 1, .aload_n 0), (39, 42, 3, .getfield 19), (42, 43, 1, .aload_n 0), (43, 46, 3, .getfield 65), (46, 47, 1, .iconst 1), (47, 48, 1, .iadd), (48, 49, 1, .aload_n 0), (49, 52, 3, .getfield 19), (52, 53, 1, .aload_n 0), (53, 56, 3, .getfield 65), (56, 57, 1, .iaload), (57, 58, 1, .iastore), (58, 59, 1, .aload_n 1), (59, 62, 3, .getfield 91), (62, 63, 1, .iload_n 2), (63, 64, 1, .iaload), (64, 65, 1, .istore_n 3), (65, 66, 1, .iload_n 3), (66, 67, 1, .aload_n 1), (67, 70, 3, .getfield 91), (70, 71, 1, .iload_n 2), (71, 72, 1, .iconst 1), (72, 73, 1, .iadd), (73, 74, 1, .iaload), (74, 77, 3, .if_icmp .ge 41), (77, 78, 1, .aload_n 0), (78, 81, 3, .getfield 22), (81, 82, 1, .aload_n 0), (82, 85, 3, .getfield 19), (85, 86, 1, .aload_n 0), (86, 89, 3, .getfield 65), (89, 90, 1, .iconst 1), (90, 91, 1, .iadd), (91, 92, 1, .dup2), (92, 93, 1, .iaload), (93, 94, 1, .dup_x2), (94, 95, 1, .iconst 1), (95, 96, 1, .iadd), (96, 97, 1, .iastore), (97, 98, 1, .aload_n 0), (98, 101, 3, .getfield 25), (101, 102, 1, .aload_n 1), (102, 105, 3, .getfield 92), (105, 106, 1, .iload_n 3), (106, 107, 1, .iaload), (107, 108, 1, .iaload), (108, 109, 1, .iastore), (109, 112, 3, .iinc 3 1), (112, 115, 3, .goto (-47)), (115, 116, 1, .aload_n 0), (116, 119, 3, .getfield 25), (119, 120, 1, .iload_n 2), (120, 121, 1, .aload_n 0), (121, 124, 3, .invokevirtual 93), (124, 125, 1, .iastore), (125, 126, 1, .aload_n 0), (126, 129, 3, .getfield 25), (129, 130, 1, .iload_n 2), (130, 131, 1, .iaload), (131, 132, 1, .aload_n 0), (132, 135, 3, .getfield 65), (135, 138, 3, .if_icmp .ne 13), (138, 139, 1, .aload_n 0), (139, 140, 1, .dup), (140, 143, 3, .getfield 65), (143, 144, 1, .iconst 1), (144, 145, 1, .iadd), (145, 148, 3, .putfield 65), (148, 151, 3, .iinc 2 1), (151, 154, 3, .goto (-136)), (154, 155, 1, .aload_n 0), (155, 156, 1, .aload_n 0), (156, 159, 3, .getfield 25), (159, 160, 1, .aload_n 1), (160, 163, 3, .getfield 87), (163, 164, 1, .iconst 1), (164, 165, 1, .isub), (165, 166, 1, .iaload), (166, 169, 3, .putfield 97), (169, 170, 1, .return_)]
def ilX13_findLabels : IL := [(0, 1, 1, .aload_n 0), (1, 2, 1, .iconst 0), (2, 5, 3, .putfield 113), (5, 6, 1, .aload_n 0), (6, 9, 3, .getfield 57), (9, 10, 1, .aload_n 0), (10, 13, 3, .getfield 9), (13, 16, 3, .invokevirtual 116), (16, 17, 1, .istore_n 1), (17, 18, 1, .aload_n 0), (18, 21, 3, .getfield 54), (21, 22, 1, .iconst 0), (22, 25, 3, .invokestatic 84), (25, 26, 1, .iconst 0), (26, 27, 1, .istore_n 2), (27, 28, 1, .iload_n 2), (28, 29, 1, .iload_n 1), (29, 32, 3, .if_icmp .ge 29), (32, 33, 1, .aload_n 0), (33, 36, 3, .getfield 54), (36, 37, 1, .aload_n 0), (37, 40, 3, .getfield 57), (40, 41, 1, .aload_n 0), (41, 44, 3, .getfield 9), (44, 45, 1, .iload_n 2), (45, 48, 3, .invokevirtual 121), (48, 49, 1, .iload_n 2), (49, 50, 1, .iconst 1), (50, 51, 1, .iadd), (51, 52, 1, .iastore), (52, 55, 3, .iinc 2 1), (55, 58, 3, .goto (-28)), (58, 59, 1, .iconst 0), (59, 60, 1, .istore_n 2), (60, 61, 1, .iload_n 2), (61, 62, 1, .aload_n 0), (62, 65, 3, .getfield 78), (65, 68, 3, .if_icmp .ge 73), (68, 69, 1, .aload_n 0), (69, 72, 3, .getfield 42), (72, 73, 1, .iload_n 2), (73, 74, 1, .iaload), (74, 77, 3, .ifCond .ge 7), (77, 78, 1, .iconst (-1)), (78, 81, 3, .goto 11), (81, 82, 1, .aload_n 0), (82, 85, 3, .getfield 42), (85, 86, 1, .iload_n 2), (86, 87, 1, .iaload), (87, 88, 1, .iconst 1), (88, 89, 1, .ishr), (89, 90, 1, .istore_n 3), (90, 91, 1, .iload_n 3), (91, 94, 3, .ifCond .lt 41), (94, 95, 1, .aload_n 0), (95, 98, 3, .getfield 54), (98, 99, 1, .iload_n 3), (99, 100, 1, .iaload), (100, 103, 3, .ifCond .ne 32), (103, 104, 1, .aload_n 0), (104, 107, 3, .getfield 51), (107, 108, 1, .aload_n 0), (108, 109, 1, .dup), (109, 112, 3, .getfield 113), (112, 113, 1, .dup_x1), (113, 114, 1, .iconst 1), (114, 115, 1, .iadd), (115, 118, 3, .putfield 113), (118, 119, 1, .iload_n 3), (119, 120, 1, .iastore), (120, 121, 1, .aload_n 0), (121, 124, 3, .getfield 54), (124, 125, 1, .iload_n 3), (125, 126, 1, .iload_n 1), (126, 127, 1, .aload_n 0), (127, 130, 3, .getfield 113), (130, 131, 1, .iadd), (131, 132, 1, .iastore), (132, 135, 3, .iinc 2 1), (135, 138, 3, .goto (-75)), (138, 139, 1, .return_)]
def ilX13_add : IL := [(0, 1, 1, .iload_n 1), (1, 4, 3, .ifCond .ne 20), (4, 5, 1, .aload_n 0), (5, 8, 3, .getfield 42), (8, 9, 1, .aload_n 0), (9, 10, 1, .dup), (10, 13, 3, .getfield 78), (13, 14, 1, .dup_x1), (14, 15, 1, .iconst 1), (15, 16, 1, .iadd), (16, 19, 3, .putfield 78), (19, 20, 1, .iload_n 2), (20, 21, 1, .iastore), (21, 22, 1, .return_)]
def ilX13_walk : IL := [(0, 1, 1, .iconst 0), (1, 2, 1, .istore_n 2), (2, 3, 1, .iconst 0), (3, 4, 1, .istore_n 3), (4, 5, 1, .aload_n 0), (5, 8, 3, .getfield 45), (8, 9, 1, .iconst 0), (9, 10, 1, .aload_n 0), (10, 13, 3, .getfield 97), (13, 14, 1, .iastore), (14, 15, 1, .aload_n 0), (15, 18, 3, .getfield 48), (18, 19, 1, .iconst 0), (19, 20, 1, .iconst 0), (20, 21, 1, .iastore), (21, 22, 1, .aload_n 0), (22, 25, 3, .getfield 32), (25, 26, 1, .aload_n 0), (26, 29, 3, .getfield 97), (29, 30, 1, .iconst 1), (30, 31, 1, .bastore), (31, 32, 1, .iload_n 2), (32, 35, 3, .ifCond .lt 202), (35, 36, 1, .aload_n 0), (36, 39, 3, .getfield 45), (39, 40, 1, .iload_n 2), (40, 41, 1, .iaload), (41, 43, 2, .istore 4), (43, 44, 1, .aload_n 0), (44, 47, 3, .getfield 48), (47, 48, 1, .iload_n 2), (48, 49, 1, .iaload), (49, 50, 1, .aload_n 0), (50, 52, 2, .iload 4), (52, 55, 3, .invokevirtual 105), (55, 58, 3, .if_icmp .ne 80), (58, 59, 1, .iload_n 1), (59, 62, 3, .ifCond .ne 26), (62, 63, 1, .aload_n 0), (63, 65, 2, .iload 4), (65, 68, 3, .invokevirtual 105), (68, 71, 3, .ifCond .le 17), (71, 72, 1, .aload_n 0), (72, 75, 3, .getfield 36), (75, 77, 2, .iload 4), (77, 78, 1, .baload), (78, 81, 3, .ifCond .eq 7), (81, 82, 1, .iconst 1), (82, 85, 3, .goto 4), (85, 86, 1, .iconst 0), (86, 88, 2, .istore 5), (88, 89, 1, .aload_n 0), (89, 90, 1, .iload_n 1), (90, 91, 1, .iconst 2), (91, 92, 1, .aload_n 0), (92, 95, 3, .getfield 15), (95, 97, 2, .iload 4), (97, 98, 1, .iaload), (98, 99, 1, .imul), (99, 101, 2, .iload 5), (101, 104, 3, .ifCond .eq 7), (104, 105, 1, .iconst 1), (105, 108, 3, .goto 4), (108, 109, 1, .iconst 0), (109, 110, 1, .iadd), (110, 113, 3, .invokevirtual 109), (113, 115, 2, .iload 5), (115, 118, 3, .ifCond .eq 14), (118, 119, 1, .aload_n 0), (119, 122, 3, .getfield 39), (122, 124, 2, .iload 4), (124, 125, 1, .iload_n 3), (125, 128, 3, .iinc 3 1), (128, 129, 1, .iastore), (129, 132, 3, .iinc 2 (-1)), (132, 135, 3, .goto (-101)), (135, 136, 1, .aload_n 0), (136, 139, 3, .getfield 22), (139, 140, 1, .aload_n 0), (140, 143, 3, .getfield 19), (143, 145, 2, .iload 4), (145, 146, 1, .iaload), (146, 147, 1, .aload_n 0), (147, 150, 3, .getfield 48), (150, 151, 1, .iload_n 2), (151, 152, 1, .dup2), (152, 153, 1, .iaload), (153, 154, 1, .dup_x2), (154, 155, 1, .iconst 1), (155, 156, 1, .iadd), (156, 157, 1, .iastore), (157, 158, 1, .iadd), (158, 159, 1, .iaload), (159, 161, 2, .istore 5), (161, 162, 1, .aload_n 0), (162, 165, 3, .getfield 32), (165, 167, 2, .iload 5), (167, 168, 1, .baload), (168, 171, 3, .ifCond .eq 37), (171, 172, 1, .aload_n 0), (172, 174, 2, .iload 5), (174, 177, 3, .invokevirtual 105), (177, 180, 3, .ifCond .le 28), (180, 181, 1, .aload_n 0), (181, 184, 3, .getfield 36), (184, 186, 2, .iload 5), (186, 187, 1, .iconst 1), (187, 188, 1, .bastore), (188, 189, 1, .aload_n 0), (189, 190, 1, .iload_n 1), (190, 191, 1, .iconst (-1)), (191, 192, 1, .aload_n 0), (192, 195, 3, .getfield 39), (195, 197, 2, .iload 5), (197, 198, 1, .iaload), (198, 199, 1, .isub), (199, 202, 3, .invokevirtual 109), (202, 205, 3, .goto 29), (205, 206, 1, .aload_n 0), (206, 209, 3, .getfield 32), (209, 211, 2, .iload 5), (211, 212, 1, .iconst 1), (212, 213, 1, .bastore), (213, 216, 3, .iinc 2 1), (216, 217, 1, .aload_n 0), (217, 220, 3, .getfield 45), (220, 221, 1, .iload_n 2), (221, 223, 2, .iload 5), (223, 224, 1, .iastore), (224, 225, 1, .aload_n 0), (225, 228, 3, .getfield 48), (228, 229, 1, .iload_n 2), (229, 230, 1, .iconst 0), (230, 231, 1, .iastore), (231, 234, 3, .goto (-200)), (234, 235, 1, .return_)]
def ilX13_pack : IL := [(0, 1, 1, .aload_n 0), (1, 4, 3, .getfield 9), (4, 5, 1, .iload_n 2), (5, 8, 3, .if_icmp .ne 4), (8, 9, 1, .return_), (9, 10, 1, .aload_n 0), (10, 11, 1, .iload_n 2), (11, 14, 3, .putfield 9), (14, 15, 1, .aload_n 0), (15, 16, 1, .aload_n 1), (16, 19, 3, .invokevirtual 61), (19, 20, 1, .aload_n 0), (20, 23, 3, .getfield 32), (23, 24, 1, .iconst 0), (24, 25, 1, .aload_n 0), (25, 28, 3, .getfield 65), (28, 29, 1, .iconst 0), (29, 32, 3, .invokestatic 68), (32, 33, 1, .aload_n 0), (33, 36, 3, .getfield 36), (36, 37, 1, .iconst 0), (37, 38, 1, .aload_n 0), (38, 41, 3, .getfield 65), (41, 42, 1, .iconst 0), (42, 45, 3, .invokestatic 68), (45, 46, 1, .aload_n 0), (46, 47, 1, .iconst 1), (47, 50, 3, .invokevirtual 74), (50, 51, 1, .aload_n 0), (51, 54, 3, .getfield 32), (54, 55, 1, .iconst 0), (55, 56, 1, .aload_n 0), (56, 59, 3, .getfield 65), (59, 60, 1, .iconst 0), (60, 63, 3, .invokestatic 68), (63, 64, 1, .aload_n 0), (64, 65, 1, .iconst 0), (65, 68, 3, .putfield 78), (68, 69, 1, .aload_n 0), (69, 70, 1, .iconst 0), (70, 73, 3, .invokevirtual 74), (73, 74, 1, .aload_n 0), (74, 77, 3, .invokevirtual 81), (77, 78, 1, .return_)]
def ilX0_isPackedWell : IL := [(0, 1, 1, .aload_n 0), (1, 2, 1, .iload_n 1), (2, 5, 3, .invokevirtual 373), (5, 6, 1, .lstore_n 2), (6, 7, 1, .lload_n 2), (7, 8, 1, .lconst 0), (8, 9, 1, .lcmp), (9, 12, 3, .ifCond .lt 11), (12, 13, 1, .lload_n 2), (13, 16, 3, .ldc2_w 443), (16, 17, 1, .lcmp), (17, 20, 3, .ifCond .le 5), (20, 21, 1, .iconst 1), (21, 22, 1, .ireturn), (22, 23, 1, .aload_n 0), (23, 26, 3, .getfield 123), (26, 27, 1, .aload_n 0), (27, 30, 3, .getfield 72), (30, 31, 1, .iload_n 1), (31, 34, 3, .invokevirtual 277), (34, 35, 1, .iload_n 1), (35, 38, 3, .invokevirtual 379), (38, 39, 1, .aload_n 0), (39, 42, 3, .getfield 123), (42, 45, 3, .invokevirtual 522), (45, 46, 1, .ireturn)]
def ilX0_isSymbol : IL := [(0, 1, 1, .iload_n 1), (1, 4, 3, .ifCond .lt 23), (4, 5, 1, .iload_n 1), (5, 6, 1, .aload_n 0), (6, 9, 3, .getfield 40), (9, 12, 3, .getfield 184), (12, 17, 5, .invokeinterface 188 1), (17, 20, 3, .if_icmp .ge 7), (20, 21, 1, .iconst 1), (21, 24, 3, .goto 4), (24, 25, 1, .iconst 0), (25, 26, 1, .ireturn)]
def ilX0_kind : IL := [(0, 1, 1, .aload_n 0), (1, 4, 3, .getfield 40), (4, 5, 1, .iload_n 1), (5, 8, 3, .invokevirtual 211), (8, 11, 3, .ifCond .ne 7), (11, 12, 1, .iconst (-1)), (12, 15, 3, .goto 30), (15, 16, 1, .aload_n 0), (16, 19, 3, .getfield 40), (19, 22, 3, .getfield 181), (22, 23, 1, .iload_n 1), (23, 24, 1, .iaload), (24, 25, 1, .aload_n 0), (25, 28, 3, .getfield 40), (28, 31, 3, .getfield 203), (31, 32, 1, .iload_n 1), (32, 33, 1, .baload), (33, 36, 3, .ifCond .eq 7), (36, 37, 1, .iconst 1), (37, 40, 3, .goto 4), (40, 41, 1, .iconst 0), (41, 42, 1, .iadd), (42, 43, 1, .ireturn)]
def ilX3_length : IL := [(0, 1, 1, .aload_n 0), (1, 4, 3, .getfield 48), (4, 5, 1, .iload_n 1), (5, 6, 1, .iconst 1), (6, 7, 1, .iadd), (7, 8, 1, .iaload), (8, 9, 1, .aload_n 0), (9, 12, 3, .getfield 48), (12, 13, 1, .iload_n 1), (13, 14, 1, .iaload), (14, 15, 1, .isub), (15, 16, 1, .ireturn)]
def ilX0_length : IL := [(0, 1, 1, .aload_n 0), (1, 4, 3, .getfield 40), (4, 5, 1, .iload_n 1), (5, 8, 3, .invokevirtual 211), (8, 11, 3, .ifCond .eq 14), (11, 12, 1, .aload_n 0), (12, 15, 3, .getfield 40), (15, 16, 1, .iload_n 1), (16, 19, 3, .invokevirtual 215), (19, 22, 3, .goto 4), (22, 23, 1, .iconst (-1)), (23, 24, 1, .ireturn)]
def kX0_sizeOf_l39 (v2 : Int) (K : NW → OR) : Nat → Int → NW → OR
  | 0, _, _ => none
  | n + 1, v3, N => ck (0 ≤ (w32 (v2 + 1)) ∧ (w32 (v2 + 1)) < 20001) (if (N 568 (w32 (v2 + 1))) ≤ v3 then (K N) else (ck (0 ≤ v2 ∧ v2 < 20000) (ck (0 ≤ v3 ∧ v3 < 20000) (ck (0 ≤ (N 569 v3) ∧ (N 569 v3) < 20000) (ck (0 ≤ v2 ∧ v2 < 20000) (lt (up2 N 638 v2 (iMin 1000000000000000001 (w64 ((N 638 v2) + (N 638 (N 569 v3)))))) (fun N12 => kX0_sizeOf_l39 v2 K n (w32 (v3 + 1)) N12)))))))
def kX0_sizeOf_l11 (K : NW → OR) : Nat → Int → NW → OR
  | 0, _, _ => none
  | n + 1, v2, N => if (N 566 5) ≤ v2 then (K N) else (ck (0 ≤ v2 ∧ v2 < 20000) (lt (up2 N 638 v2 1) (fun N5 => ck (0 ≤ v2 ∧ v2 < 20001) (kX0_sizeOf_l39 v2 (fun (N14 : NW) => (kX0_sizeOf_l11 K n (w32 (v2 + 1)) N14 : OR)) n (N5 568 v2) N5))))
def kX0_sizeOf (n : Nat) (a1 : Int) (N : NW) : OR :=
  bn (kX8_of n a1 N) (fun r1 N2 => kX0_sizeOf_l11 (fun (N16 : NW) => (ck (0 ≤ (w32 ((N16 566 5) - 1)) ∧ (w32 ((N16 566 5) - 1)) < 20000) (lt (N16 638 (w32 ((N16 566 5) - 1))) (fun x2_18 => if (lCmp x2_18 1000000000000000000) ≤ 0 then (some (x2_18, N16)) else (some ((-2), N16)))) : OR)) n 0 N2)
def kX13_many (n : Nat) (a1 : Int) (N : NW) : OR :=
  ck (0 ≤ (w32 (a1 + 1)) ∧ (w32 (a1 + 1)) < 20002) (ck (0 ≤ a1 ∧ a1 < 20002) (some (w32 ((N 624 (w32 (a1 + 1))) - (N 624 a1)), N)))
def kX13_isSame_l26 (v1 : Int) (K : Int → NW → OR) : Nat → Int → Int → NW → OR
  | 0, _, _, _ => none
  | n + 1, v2, v3, N => bn (kX13_many n (N 622 5) N) (fun r4 N5 => if r4 ≤ v3 then (K v2 N5) else (if v2 = 0 then (K v2 N5) else (ck (0 ≤ v1 ∧ v1 < 20002) (ck (0 ≤ (w32 ((N5 624 v1) + v3)) ∧ (w32 ((N5 624 v1) + v3)) < 20060) (ck (0 ≤ (N5 622 5) ∧ (N5 622 5) < 20002) (ck (0 ≤ (w32 ((N5 624 (N5 622 5)) + v3)) ∧ (w32 ((N5 624 (N5 622 5)) + v3)) < 20060) (lt (if (N5 625 (w32 ((N5 624 v1) + v3))) = (N5 625 (w32 ((N5 624 (N5 622 5)) + v3))) then (1 : Int) else 0) (fun x2_11 => kX13_isSame_l26 v1 K n x2_11 (w32 (v3 + 1)) N5))))))))
def kX13_isSame (n : Nat) (a1 : Int) (N : NW) : OR :=
  ck (0 ≤ a1 ∧ a1 < 20001) (ck (0 ≤ (N 622 5) ∧ (N 622 5) < 20001) (lt (if (N 623 a1) = (N 623 (N 622 5)) then (1 : Int) else 0) (fun x2_3 => kX13_isSame_l26 a1 (fun (x2_16 : Int) (N17 : NW) => (ck ((0 : Int) ≤ x2_16 ∧ x2_16 < 2) (some (x2_16, N17)) : OR)) n x2_3 0 N)))
def kX13_find_l20 (K : Int → NW → OR) : Nat → Int → Int → NW → OR
  | 0, _, _, _ => none
  | n + 1, v1, v2, N => ck (0 ≤ (w32 ((N 622 5) + 1)) ∧ (w32 ((N 622 5) + 1)) < 20002) (if (N 624 (w32 ((N 622 5) + 1))) ≤ v2 then (K v1 N) else (ck (0 ≤ v2 ∧ v2 < 20060) (lt (w32 ((w32 (31 * v1)) + (N 625 v2))) (fun x1_5 => kX13_find_l20 K n x1_5 (w32 (v2 + 1)) N))))
def kX13_find_l63 (K : Int → NW → OR) : Nat → Int → NW → OR
  | 0, _, _ => none
  | n + 1, v2, N => ck (0 ≤ v2 ∧ v2 < 65536) (if (N 627 v2) = 0 then (K v2 N) else (ck (0 ≤ v2 ∧ v2 < 65536) (bn (kX13_isSame n (w32 ((N 627 v2) - 1)) N) (fun r12 N13 => if r12 = 0 then (lt (iAnd (w32 (v2 + 1)) 65535) (fun x2_15 => kX13_find_l63 K n x2_15 N13)) else (K v2 N13)))))
def kX13_find (n : Nat) (N : NW) : OR :=
  ck (0 ≤ (N 622 5) ∧ (N 622 5) < 20001) (ck (0 ≤ (N 622 5) ∧ (N 622 5) < 20002) (kX13_find_l20 (fun (x1_7 : Int) (N8 : NW) => (lt (iAnd (iXor x1_7 (iUshr x1_7 16)) 65535) (fun x2_9 => kX13_find_l63 (fun (x2_18 : Int) (N19 : NW) => (ck (0 ≤ x2_18 ∧ x2_18 < 65536) (lt (fun (N21 : NW) => (ck (0 ≤ x2_18 ∧ x2_18 < 65536) (some (w32 ((N21 627 x2_18) - 1), N21)) : OR)) (fun (J22 : NW → OR) => if (N19 627 x2_18) = 0 then (ck (0 ≤ x2_18 ∧ x2_18 < 65536) (lt (up2 N19 627 x2_18 (w32 ((N19 622 5) + 1))) (fun N25 => J22 N25))) else (J22 N19))) : OR)) n x2_9 N8) : OR)) n (N 623 (N 622 5)) (N 624 (N 622 5)) N))
def kX13_known (n : Nat) (N : NW) : OR :=
  bn (kX13_find n N) (fun r1 N2 => if (N2 622 5) ≤ r1 then (lt (up2 N2 622 1 (-1)) (fun N4 => some ((-1), N4))) else (some (r1, N2)))
def kX13_saves (n : Nat) (a1 : Int) (N : NW) : OR :=
  ck (0 ≤ a1 ∧ a1 < 20001) (if (N 631 a1) < 0 then (some (0, N)) else (ck (0 ≤ a1 ∧ a1 < 20001) (if (iAnd (N 631 a1) 1) = 1 then (some (1, N)) else (some (0, N)))))
def kX13_isWell_l155 (v1 : Int) (v2 : Int) (v3 : Int) (v4 : Int) (v5 : Int) (K : NW → OR) : Nat → Int → NW → OR
  | 0, _, _ => none
  | n + 1, v6, N => if v1 ≤ v6 then (K N) else (if v3 = 0 then (K N) else (ck (0 ≤ (w32 ((N 622 5) + 1)) ∧ (w32 ((N 622 5) + 1)) < 20002) (ck (0 ≤ (w32 ((N 622 5) + 1)) ∧ (w32 ((N 622 5) + 1)) < 20002) (lt (up2 N 624 (w32 ((N 622 5) + 1)) (w32 ((N 624 (w32 ((N 622 5) + 1))) + 1))) (fun N23 => ck (0 ≤ v6 ∧ v6 < 20001) (ck (0 ≤ (N 624 (w32 ((N 622 5) + 1))) ∧ (N 624 (w32 ((N 622 5) + 1))) < 20060) (lt (up2 N23 625 (N 624 (w32 ((N 622 5) + 1))) (N23 632 v6)) (fun N26 => kX13_isWell_l155 v1 v2 v3 v4 v5 K n (w32 (v6 + 1)) N26))))))))
def kX13_isWell_l9 (K : Int → Int → NW → OR) : Nat → Int → Int → Int → Int → NW → OR
  | 0, _, _, _, _, _ => none
  | n + 1, v1, v2, v3, v4, N => if (N 622 13) ≤ v4 then (K v1 v3 N) else (if v3 = 0 then (K v1 v3 N) else (ck (0 ≤ v4 ∧ v4 < 20001) (lt (fun (x1_2 : Int) (x2_3 : Int) (x3_4 : Int) (N5 : NW) => (kX13_isWell_l9 K n x1_2 x2_3 x3_4 (w32 (v4 + 1)) N5 : OR)) (fun (J6 : Int → Int → Int → NW → OR) => if 0 ≤ (N 631 v4) then (ck (0 ≤ v4 ∧ v4 < 20001) (bn (kX3_isAssertion n (iShr (N 631 v4) 1) N) (fun r8 N9 => lt (fun (s11 : Int) (N12 : NW) => (lt (if v1 < s11 then (0 : Int) else 1) (fun x3_14 => ck (0 ≤ v4 ∧ v4 < 20001) (ck (0 ≤ (N12 622 5) ∧ (N12 622 5) < 20001) (lt (up2 N12 623 (N12 622 5) (iShr (N12 631 v4) 1)) (fun N17 => ck (0 ≤ (N17 622 5) ∧ (N17 622 5) < 20002) (ck (0 ≤ (w32 ((N17 622 5) + 1)) ∧ (w32 ((N17 622 5) + 1)) < 20002) (lt (up2 N17 624 (w32 ((N17 622 5) + 1)) (N17 624 (N17 622 5))) (fun N20 => kX13_isWell_l155 v1 v2 x3_14 v4 s11 (fun (N29 : NW) => (lt (fun (s30 : Int) (N31 : NW) => (lt (iAnd x3_14 (if s30 < 0 then (0 : Int) else 1)) (fun x3_33 => ck (0 ≤ (iMax 0 (w32 (v1 - s11))) ∧ (iMax 0 (w32 (v1 - s11))) < 20001) (lt (up2 N31 632 (iMax 0 (w32 (v1 - s11))) s30) (fun N35 => bn (kX13_saves n v4 N35) (fun r36 N37 => if r36 = 0 then (J6 (w32 ((w32 (v1 - s11)) + 1)) v2 x3_33 N37) else (ck (0 ≤ v2 ∧ v2 < 20001) (lt (up2 N37 633 v2 s30) (fun N40 => J6 (w32 ((w32 (v1 - s11)) + 1)) (w32 (v2 + 1)) x3_33 N40))))))) : OR)) (fun (J32 : Int → NW → OR) => if x3_14 = 0 then (J32 (-1) N29) else (bn (kX13_known n N29) (fun r44 N45 => J32 r44 N45))) : OR)) n (w32 (v1 - s11)) N20))))))) : OR)) (fun (J13 : Int → NW → OR) => if r8 = 0 then (J13 0 N9) else (ck (0 ≤ v4 ∧ v4 < 20001) (bn (kX3_mandatory n (iShr (N9 631 v4) 1) N9) (fun r51 N52 => J13 r51 N52))))))) else (ck (0 ≤ v4 ∧ v4 < 20001) (ck (0 ≤ (w32 ((-1) - (N 631 v4))) ∧ (w32 ((-1) - (N 631 v4))) < 20001) (ck (0 ≤ v1 ∧ v1 < 20001) (lt (up2 N 632 v1 (N 633 (w32 ((-1) - (N 631 v4))))) (fun N58 => J6 (w32 (v1 + 1)) v2 v3 N58)))))))))
def kX13_isWell (n : Nat) (N : NW) : OR :=
  kX13_isWell_l9 (fun (x1_62 : Int) (x3_63 : Int) (N64 : NW) => (if x3_63 = 0 then (some (0, N64)) else (if x1_62 = 1 then (ck ((0 : Int) ≤ 0 ∧ (0 : Int) < 20001) (if (N64 632 0) = (N64 622 8) then (some (1, N64)) else (some (0, N64)))) else (some (0, N64))) : OR)) n 0 0 1 0 N
def kX13_findKinds_566_l65 (v2 : Int) (K : NW → OR) : Nat → Int → NW → OR
  | 0, _, _ => none
  | n + 1, v3, N => ck (0 ≤ (w32 (v2 + 1)) ∧ (w32 (v2 + 1)) < 20001) (if (N 568 (w32 (v2 + 1))) ≤ v3 then (K N) else (ck (0 ≤ (w32 ((N 622 5) + 1)) ∧ (w32 ((N 622 5) + 1)) < 20002) (ck (0 ≤ (w32 ((N 622 5) + 1)) ∧ (w32 ((N 622 5) + 1)) < 20002) (lt (up2 N 624 (w32 ((N 622 5) + 1)) (w32 ((N 624 (w32 ((N 622 5) + 1))) + 1))) (fun N15 => ck (0 ≤ v3 ∧ v3 < 20000) (ck (0 ≤ (N15 569 v3) ∧ (N15 569 v3) < 20000) (ck (0 ≤ (N 624 (w32 ((N 622 5) + 1))) ∧ (N 624 (w32 ((N 622 5) + 1))) < 20060) (lt (up2 N15 625 (N 624 (w32 ((N 622 5) + 1))) (N15 626 (N15 569 v3))) (fun N19 => kX13_findKinds_566_l65 v2 K n (w32 (v3 + 1)) N19)))))))))
def kX13_findKinds_566_l15 (K : NW → OR) : Nat → Int → NW → OR
  | 0, _, _ => none
  | n + 1, v2, N => if (N 566 5) ≤ v2 then (K N) else (ck (0 ≤ v2 ∧ v2 < 20000) (ck (0 ≤ (N 622 5) ∧ (N 622 5) < 20001) (lt (up2 N 623 (N 622 5) (N 567 v2)) (fun N7 => ck (0 ≤ (N7 622 5) ∧ (N7 622 5) < 20002) (ck (0 ≤ (w32 ((N7 622 5) + 1)) ∧ (w32 ((N7 622 5) + 1)) < 20002) (lt (up2 N7 624 (w32 ((N7 622 5) + 1)) (N7 624 (N7 622 5))) (fun N10 => ck (0 ≤ v2 ∧ v2 < 20001) (kX13_findKinds_566_l65 v2 (fun (N21 : NW) => (bn (kX13_find n N21) (fun r22 N23 => ck (0 ≤ v2 ∧ v2 < 20000) (lt (up2 N23 626 v2 r22) (fun N26 => ck (0 ≤ v2 ∧ v2 < 20000) (lt (fun (N28 : NW) => (kX13_findKinds_566_l15 K n (w32 (v2 + 1)) N28 : OR)) (fun (J29 : NW → OR) => if (N26 626 v2) = (N26 622 5) then (lt (up2 N26 622 5 (w32 ((N26 622 5) + 1))) (fun N30 => J29 N30)) else (J29 N26)))))) : OR)) n (N10 568 v2) N10))))))))
def kX13_findKinds_566 (n : Nat) (N : NW) : OR :=
  bn (kJ9_fill_627 n 0 N) (fun r1 N2 => lt (up2 N2 622 5 0) (fun N4 => kX13_findKinds_566_l15 (fun (N33 : NW) => (ck (0 ≤ (w32 ((N33 566 5) - 1)) ∧ (w32 ((N33 566 5) - 1)) < 20000) (lt (up2 N33 622 8 (N33 626 (w32 ((N33 566 5) - 1)))) (fun N35 => some (0, N35))) : OR)) n 0 N4))
def kX13_findLabels_l27 (v1 : Int) (K : NW → OR) : Nat → Int → NW → OR
  | 0, _, _ => none
  | n + 1, v2, N => if v1 ≤ v2 then (K N) else (bn (kX3_hypothesis n (N 622 1) v2 N) (fun r8 N9 => ck (0 ≤ r8 ∧ r8 < 1500) (lt (up2 N9 635 r8 (w32 (v2 + 1))) (fun N12 => kX13_findLabels_l27 v1 K n (w32 (v2 + 1)) N12))))
def kX13_findLabels_l60 (v1 : Int) (K : NW → OR) : Nat → Int → NW → OR
  | 0, _, _ => none
  | n + 1, v2, N => if (N 622 13) ≤ v2 then (K N) else (ck (0 ≤ v2 ∧ v2 < 20001) (lt (fun (s16 : Int) (N17 : NW) => (lt (fun (N19 : NW) => (kX13_findLabels_l60 v1 K n (w32 (v2 + 1)) N19 : OR)) (fun (J20 : NW → OR) => if s16 < 0 then (J20 N17) else (ck (0 ≤ s16 ∧ s16 < 1500) (if (N17 635 s16) = 0 then (lt (up2 N17 622 17 (w32 ((N17 622 17) + 1))) (fun N22 => ck (0 ≤ (N17 622 17) ∧ (N17 622 17) < 1500) (lt (up2 N22 634 (N17 622 17) s16) (fun N24 => ck (0 ≤ s16 ∧ s16 < 1500) (lt (up2 N24 635 s16 (w32 (v1 + (N24 622 17)))) (fun N26 => J20 N26)))))) else (J20 N17)))) : OR)) (fun (J18 : Int → NW → OR) => if 0 ≤ (N 631 v2) then (ck (0 ≤ v2 ∧ v2 < 20001) (J18 (iShr (N 631 v2) 1) N)) else (J18 (-1) N))))
def kX13_findLabels (n : Nat) (N : NW) : OR :=
  lt (up2 N 622 17 0) (fun N1 => bn (kX3_mandatory n (N1 622 1) N1) (fun r2 N3 => bn (kJ9_fill_635 n 0 N3) (fun r5 N6 => kX13_findLabels_l27 r2 (fun (N14 : NW) => (kX13_findLabels_l60 r2 (fun (N32 : NW) => (some (0, N32) : OR)) n 0 N14 : OR)) n 0 N6)))
def kX13_add (n : Nat) (a1 : Int) (a2 : Int) (N : NW) : OR :=
  if a1 = 0 then (lt (up2 N 622 13 (w32 ((N 622 13) + 1))) (fun N1 => ck (0 ≤ (N 622 13) ∧ (N 622 13) < 20001) (lt (up2 N1 631 (N 622 13) a2) (fun N3 => some (0, N3))))) else (some (0, N))
def kX13_walk_l31 (v1 : Int) (K : NW → OR) : Nat → Int → Int → NW → OR
  | 0, _, _, _ => none
  | n + 1, v2, v3, N => if v2 < 0 then (K N) else (ck (0 ≤ v2 ∧ v2 < 20001) (ck (0 ≤ v2 ∧ v2 < 20001) (bn (kX13_many n (N 632 v2) N) (fun r9 N10 => if (N 633 v2) = r9 then (lt (fun (s41 : Int) (N42 : NW) => (ck (0 ≤ (N 632 v2) ∧ (N 632 v2) < 20001) (bn (kX13_add n v1 (w32 ((w32 (2 * (N42 623 (N 632 v2)))) + (if s41 = 0 then (0 : Int) else 1))) N42) (fun r45 N46 => lt (fun (x3_48 : Int) (N49 : NW) => (kX13_walk_l31 v1 K n (w32 (v2 + (-1))) x3_48 N49 : OR)) (fun (J50 : Int → NW → OR) => if s41 = 0 then (J50 v3 N46) else (ck (0 ≤ (N 632 v2) ∧ (N 632 v2) < 20000) (lt (up2 N46 630 (N 632 v2) v3) (fun N52 => J50 (w32 (v3 + 1)) N52)))))) : OR)) (fun (J43 : Int → NW → OR) => lt (fun (N56 : NW) => (J43 0 N56 : OR)) (fun (J57 : NW → OR) => if v1 = 0 then (bn (kX13_many n (N 632 v2) N10) (fun r58 N59 => if r58 ≤ 0 then (J57 N59) else (ck (0 ≤ (N 632 v2) ∧ (N 632 v2) < 20000) (if (N59 629 (N 632 v2)) = 0 then (J57 N59) else (J43 1 N59))))) else (J57 N10)))) else (ck (0 ≤ (N 632 v2) ∧ (N 632 v2) < 20002) (ck (0 ≤ v2 ∧ v2 < 20001) (ck (0 ≤ v2 ∧ v2 < 20001) (lt (up2 N10 633 v2 (w32 ((N10 633 v2) + 1))) (fun N15 => ck (0 ≤ (w32 ((N10 624 (N 632 v2)) + (N10 633 v2))) ∧ (w32 ((N10 624 (N 632 v2)) + (N10 633 v2))) < 20060) (lt (N15 625 (w32 ((N10 624 (N 632 v2)) + (N10 633 v2)))) (fun x5_17 => ck (0 ≤ x5_17 ∧ x5_17 < 20000) (lt (fun (x2_19 : Int) (N20 : NW) => (kX13_walk_l31 v1 K n x2_19 v3 N20 : OR)) (fun (J21 : Int → NW → OR) => lt (fun (N22 : NW) => (ck (0 ≤ x5_17 ∧ x5_17 < 20000) (lt (up2 N22 628 x5_17 1) (fun N25 => ck (0 ≤ (w32 (v2 + 1)) ∧ (w32 (v2 + 1)) < 20001) (lt (up2 N25 632 (w32 (v2 + 1)) x5_17) (fun N27 => ck (0 ≤ (w32 (v2 + 1)) ∧ (w32 (v2 + 1)) < 20001) (lt (up2 N27 633 (w32 (v2 + 1)) 0) (fun N29 => J21 (w32 (v2 + 1)) N29)))))) : OR)) (fun (J23 : NW → OR) => if (N15 628 x5_17) = 0 then (J23 N15) else (bn (kX13_many n x5_17 N15) (fun r30 N31 => if r30 ≤ 0 then (J23 N31) else (ck (0 ≤ x5_17 ∧ x5_17 < 20000) (lt (up2 N31 629 x5_17 1) (fun N34 => ck (0 ≤ x5_17 ∧ x5_17 < 20000) (bn (kX13_add n v1 (w32 ((-1) - (N34 630 x5_17))) N34) (fun r36 N37 => J21 v2 N37)))))))))))))))))))))
def kX13_walk (n : Nat) (a1 : Int) (N : NW) : OR :=
  ck ((0 : Int) ≤ 0 ∧ (0 : Int) < 20001) (lt (up2 N 632 0 (N 622 8)) (fun N2 => ck ((0 : Int) ≤ 0 ∧ (0 : Int) < 20001) (lt (up2 N2 633 0 0) (fun N4 => ck (0 ≤ (N4 622 8) ∧ (N4 622 8) < 20000) (lt (up2 N4 628 (N4 622 8) 1) (fun N6 => kX13_walk_l31 a1 (fun (N67 : NW) => (some (0, N67) : OR)) n 0 0 N6))))))
def kX13_pack_566 (n : Nat) (a2 : Int) (N : NW) : OR :=
  if (N 622 1) = a2 then (some (0, N)) else (lt (up2 N 622 1 a2) (fun N1 => bn (kX13_findKinds_566 n N1) (fun r2 N3 => bn (kJ9_fill_2_628 n 0 (N3 622 5) 0 N3) (fun r5 N6 => bn (kJ9_fill_2_629 n 0 (N6 622 5) 0 N6) (fun r8 N9 => bn (kX13_walk n 1 N9) (fun r11 N12 => bn (kJ9_fill_2_628 n 0 (N12 622 5) 0 N12) (fun r14 N15 => lt (up2 N15 622 13 0) (fun N17 => bn (kX13_walk n 0 N17) (fun r18 N19 => bn (kX13_findLabels n N19) (fun r21 N22 => some (0, N22)))))))))))
def kX0_isPackedWell (n : Nat) (a1 : Int) (N : NW) : OR :=
  bn (kX0_sizeOf n a1 N) (fun r1 N2 => if (lCmp r1 0) < 0 then (some (1, N2)) else (if (lCmp r1 4000) ≤ 0 then (bn (kX8_of n a1 N2) (fun r4 N5 => bn (kX13_pack_566 n a1 N5) (fun r7 N8 => bn (kX13_isWell n N8) (fun r10 N11 => ck ((0 : Int) ≤ r10 ∧ r10 < 2) (some (r10, N11)))))) else (some (1, N2))))
def kX0_isSymbol (n : Nat) (a1 : Int) (N : NW) : OR :=
  if a1 < 0 then (some (0, N)) else (bn (kJ7_size_519 n N) (fun r1 N2 => if r1 ≤ a1 then (some (0, N2)) else (some (1, N2))))
def kX0_kind (n : Nat) (a1 : Int) (N : NW) : OR :=
  bn (kX3_isIn n a1 N) (fun r1 N2 => if r1 = 0 then (some ((-1), N2)) else (ck (0 ≤ a1 ∧ a1 < 1500) (ck (0 ≤ a1 ∧ a1 < 1500) (some (w32 ((N2 524 a1) + (if (N2 525 a1) = 0 then (0 : Int) else 1)), N2)))))
def kX3_length (n : Nat) (a1 : Int) (N : NW) : OR :=
  ck (0 ≤ (w32 (a1 + 1)) ∧ (w32 (a1 + 1)) < 1501) (ck (0 ≤ a1 ∧ a1 < 1501) (some (w32 ((N 526 (w32 (a1 + 1))) - (N 526 a1)), N)))
def kX0_length (n : Nat) (a1 : Int) (N : NW) : OR :=
  bn (kX3_isIn n a1 N) (fun r1 N2 => if r1 = 0 then (some ((-1), N2)) else (bn (kX3_length n a1 N2) (fun r4 N5 => some (r4, N5))))
end

section
set_option maxRecDepth 100000
def ilX0_stands : IL := [(0, 1, 1, .aload_n 0), (1, 4, 3, .getfield 144), (4, 5, 1, .iload_n 1), (5, 6, 1, .iaload), (6, 9, 3, .ifCond .ge 19), (9, 10, 1, .aload_n 0), (10, 13, 3, .getfield 144), (13, 14, 1, .iload_n 1), (14, 15, 1, .iload_n 2), (15, 16, 1, .iastore), (16, 17, 1, .aload_n 0), (17, 20, 3, .getfield 147), (20, 21, 1, .iload_n 1), (21, 22, 1, .iload_n 3), (22, 23, 1, .iastore), (23, 24, 1, .iconst 1), (24, 25, 1, .ireturn), (25, 26, 1, .aload_n 0), (26, 29, 3, .getfield 144), (29, 30, 1, .iload_n 1), (30, 31, 1, .iaload), (31, 33, 2, .istore 4), (33, 34, 1, .aload_n 0), (34, 37, 3, .getfield 147), (37, 38, 1, .iload_n 1), (38, 39, 1, .iaload), (39, 41, 2, .iload 4), (41, 42, 1, .isub), (42, 43, 1, .iload_n 3), (43, 44, 1, .iload_n 2), (44, 45, 1, .isub), (45, 48, 3, .if_icmp .ne 7), (48, 49, 1, .iconst 1), (49, 52, 3, .goto 4), (52, 53, 1, .iconst 0), (53, 55, 2, .istore 5), (55, 56, 1, .iconst 0), (56, 58, 2, .istore 6), (58, 60, 2, .iload 6), (60, 61, 1, .iload_n 3), (61, 62, 1, .iload_n 2), (62, 63, 1, .isub), (63, 66, 3, .if_icmp .ge 43), (66, 68, 2, .iload 5), (68, 71, 3, .ifCond .eq 38), (71, 72, 1, .aload_n 0), (72, 75, 3, .getfield 141), (75, 77, 2, .iload 4), (77, 79, 2, .iload 6), (79, 80, 1, .iadd), (80, 81, 1, .iaload), (81, 82, 1, .aload_n 0), (82, 85, 3, .getfield 141), (85, 86, 1, .iload_n 2), (86, 88, 2, .iload 6), (88, 89, 1, .iadd), (89, 90, 1, .iaload), (90, 93, 3, .if_icmp .ne 7), (93, 94, 1, .iconst 1), (94, 97, 3, .goto 4), (97, 98, 1, .iconst 0), (98, 100, 2, .istore 5), (100, 103, 3, .iinc 6 1), (103, 106, 3, .goto (-45)), (106, 108, 2, .iload 5), (108, 109, 1, .ireturn)]
def ilX0_match : IL := [(0, 1, 1, .aload_n 0), (1, 4, 3, .getfield 144), (4, 5, 1, .iconst (-1)), (5, 8, 3, .invokestatic 473), (8, 9, 1, .iconst 2), (9, 10, 1, .istore_n 1), (10, 11, 1, .aload_n 0), (11, 14, 3, .getfield 127), (14, 15, 1, .iconst 0), (15, 16, 1, .iconst 0), (16, 17, 1, .iastore), (17, 18, 1, .aload_n 0), (18, 21, 3, .getfield 127), (21, 22, 1, .iconst 1), (22, 23, 1, .iconst 0), (23, 24, 1, .iastore), (24, 25, 1, .iconst 1), (25, 26, 1, .istore_n 2), (26, 27, 1, .iload_n 1), (27, 30, 3, .ifCond .le 211), (30, 31, 1, .iload_n 2), (31, 34, 3, .ifCond .eq 207), (34, 37, 3, .iinc 1 (-2)), (37, 38, 1, .aload_n 0), (38, 41, 3, .getfield 127), (41, 42, 1, .iload_n 1), (42, 43, 1, .iaload), (43, 44, 1, .istore_n 3), (44, 45, 1, .aload_n 0), (45, 48, 3, .getfield 127), (48, 49, 1, .iload_n 1), (49, 50, 1, .iconst 1), (50, 51, 1, .iadd), (51, 52, 1, .iaload), (52, 54, 2, .istore 4), (54, 55, 1, .aload_n 0), (55, 58, 3, .getfield 97), (58, 61, 3, .getfield 402), (61, 62, 1, .iload_n 3), (62, 63, 1, .iaload), (63, 65, 2, .istore 5), (65, 67, 2, .iload 5), (67, 70, 3, .ifCond .ge 74), (70, 71, 1, .aload_n 0), (71, 74, 3, .getfield 97), (74, 77, 3, .getfield 479), (77, 78, 1, .iload_n 3), (78, 79, 1, .iaload), (79, 80, 1, .aload_n 0), (80, 83, 3, .getfield 101), (83, 86, 3, .getfield 479), (86, 88, 2, .iload 4), (88, 89, 1, .iaload), (89, 92, 3, .if_icmp .ne 47), (92, 93, 1, .aload_n 0), (93, 94, 1, .aload_n 0), (94, 97, 3, .getfield 97), (97, 100, 3, .getfield 408), (100, 101, 1, .iload_n 3), (101, 102, 1, .iaload), (102, 103, 1, .aload_n 0), (103, 106, 3, .getfield 101), (106, 109, 3, .getfield 482), (109, 111, 2, .iload 4), (111, 112, 1, .iaload), (112, 113, 1, .iconst 1), (113, 114, 1, .iadd), (114, 115, 1, .aload_n 0), (115, 118, 3, .getfield 101), (118, 121, 3, .getfield 485), (121, 123, 2, .iload 4), (123, 124, 1, .iaload), (124, 125, 1, .iconst 1), (125, 126, 1, .iadd), (126, 129, 3, .invokevirtual 488), (129, 132, 3, .ifCond .eq 7), (132, 133, 1, .iconst 1), (133, 136, 3, .goto 4), (136, 137, 1, .iconst 0), (137, 138, 1, .istore_n 2), (138, 141, 3, .goto 97), (141, 143, 2, .iload 5), (143, 144, 1, .aload_n 0), (144, 147, 3, .getfield 101), (147, 150, 3, .getfield 402), (150, 152, 2, .iload 4), (152, 153, 1, .iaload), (153, 156, 3, .if_icmp .ne 7), (156, 157, 1, .iconst 1), (157, 160, 3, .goto 4), (160, 161, 1, .iconst 0), (161, 162, 1, .istore_n 2), (162, 163, 1, .iconst 0), (163, 165, 2, .istore 6), (165, 167, 2, .iload 6), (167, 168, 1, .aload_n 0), (168, 171, 3, .getfield 40), (171, 172, 1, .aload_n 0), (172, 175, 3, .getfield 107), (175, 178, 3, .getfield 405), (178, 180, 2, .iload 5), (180, 181, 1, .iaload), (181, 184, 3, .invokevirtual 252), (184, 187, 3, .if_icmp .ge 51), (187, 188, 1, .iload_n 2), (188, 191, 3, .ifCond .eq 47), (191, 192, 1, .aload_n 0), (192, 195, 3, .getfield 127), (195, 196, 1, .iload_n 1), (196, 197, 1, .aload_n 0), (197, 200, 3, .getfield 97), (200, 201, 1, .iload_n 3), (201, 203, 2, .iload 6), (203, 206, 3, .invokevirtual 414), (206, 207, 1, .iastore), (207, 208, 1, .aload_n 0), (208, 211, 3, .getfield 127), (211, 212, 1, .iload_n 1), (212, 213, 1, .iconst 1), (213, 214, 1, .iadd), (214, 215, 1, .aload_n 0), (215, 218, 3, .getfield 101), (218, 220, 2, .iload 4), (220, 222, 2, .iload 6), (222, 225, 3, .invokevirtual 414), (225, 226, 1, .iastore), (226, 229, 3, .iinc 1 2), (229, 232, 3, .iinc 6 1), (232, 235, 3, .goto (-67)), (235, 238, 3, .goto (-209)), (238, 239, 1, .iload_n 2), (239, 240, 1, .ireturn)]
def ilX0_place : IL := [(0, 1, 1, .aload_n 0), (1, 4, 3, .getfield 83), (4, 5, 1, .ireturn)]
def ilX0_row : IL := [(0, 1, 1, .aload_n 0), (1, 2, 1, .iload_n 1), (2, 3, 1, .iload_n 2), (3, 6, 3, .invokevirtual 283), (6, 9, 3, .ifCond .eq 15), (9, 10, 1, .aload_n 0), (10, 13, 3, .getfield 72), (13, 16, 3, .getfield 287), (16, 17, 1, .iload_n 2), (17, 18, 1, .iaload), (18, 21, 3, .goto 4), (21, 22, 1, .iconst (-1)), (22, 23, 1, .ireturn)]
def ilX0_rows : IL := [(0, 1, 1, .aload_n 0), (1, 2, 1, .iload_n 1), (2, 5, 3, .invokevirtual 274), (5, 8, 3, .ifCond .eq 17), (8, 9, 1, .aload_n 0), (9, 12, 3, .getfield 72), (12, 13, 1, .iload_n 1), (13, 16, 3, .invokevirtual 277), (16, 19, 3, .getfield 281), (19, 22, 3, .goto 4), (22, 23, 1, .iconst (-1)), (23, 24, 1, .ireturn)]
def ilX0_say : IL := [(0, 1, 1, .aload_n 0), (1, 4, 3, .getfield 299), (4, 7, 3, .sipush 24000), (7, 10, 3, .if_icmp .ne 5), (10, 11, 1, .iconst 0), (11, 12, 1, .ireturn), (12, 13, 1, .aload_n 0), (13, 16, 3, .getfield 91), (16, 17, 1, .aload_n 0), (17, 18, 1, .dup), (18, 21, 3, .getfield 299), (21, 22, 1, .dup_x1), (22, 23, 1, .iconst 1), (23, 24, 1, .iadd), (24, 27, 3, .putfield 299), (27, 28, 1, .iload_n 1), (28, 29, 1, .i2b), (29, 30, 1, .bastore), (30, 31, 1, .iconst 1), (31, 32, 1, .ireturn)]
def ilX0_sayNumber : IL := [(0, 1, 1, .iconst 0), (1, 2, 1, .istore_n 2), (2, 3, 1, .aload_n 0), (3, 6, 3, .getfield 138), (6, 7, 1, .iload_n 2), (7, 10, 3, .iinc 2 1), (10, 12, 2, .bipush 65), (12, 13, 1, .iload_n 1), (13, 14, 1, .iconst 1), (14, 15, 1, .isub), (15, 17, 2, .bipush 20), (17, 18, 1, .irem), (18, 19, 1, .iadd), (19, 20, 1, .i2b), (20, 21, 1, .bastore), (21, 22, 1, .iload_n 1), (22, 23, 1, .iconst 1), (23, 24, 1, .isub), (24, 26, 2, .bipush 20), (26, 27, 1, .idiv), (27, 28, 1, .istore_n 3), (28, 29, 1, .iload_n 3), (29, 32, 3, .ifCond .le 30), (32, 33, 1, .aload_n 0), (33, 36, 3, .getfield 138), (36, 37, 1, .iload_n 2), (37, 40, 3, .iinc 2 1), (40, 42, 2, .bipush 85), (42, 43, 1, .iload_n 3), (43, 44, 1, .iconst 1), (44, 45, 1, .isub), (45, 46, 1, .iconst 5), (46, 47, 1, .irem), (47, 48, 1, .iadd), (48, 49, 1, .i2b), (49, 50, 1, .bastore), (50, 51, 1, .iload_n 3), (51, 52, 1, .iconst 1), (52, 53, 1, .isub), (53, 54, 1, .iconst 5), (54, 55, 1, .idiv), (55, 56, 1, .istore_n 3), (56, 59, 3, .goto (-28)), (59, 60, 1, .iconst 1), (60, 61, 1, .istore_n 3), (61, 62, 1, .iload_n 2), (62, 65, 3, .ifCond .le 24), (65, 66, 1, .iload_n 3), (66, 69, 3, .ifCond .eq 20), (69, 72, 3, .iinc 2 (-1)), (72, 73, 1, .aload_n 0), (73, 74, 1, .aload_n 0), (74, 77, 3, .getfield 138), (77, 78, 1, .iload_n 2), (78, 79, 1, .baload), (79, 82, 3, .invokevirtual 302), (82, 83, 1, .istore_n 3), (83, 86, 3, .goto (-22)), (86, 87, 1, .iload_n 3), (87, 88, 1, .ireturn)]
def ilX0_size : IL := [(0, 1, 1, .aload_n 0), (1, 2, 1, .iload_n 1), (2, 5, 3, .invokevirtual 274), (5, 8, 3, .ifCond .eq 11), (8, 9, 1, .aload_n 0), (9, 10, 1, .iload_n 1), (10, 13, 3, .invokevirtual 373), (13, 16, 3, .goto 6), (16, 19, 3, .ldc2_w 377), (19, 20, 1, .lreturn)]
def ilX0_symbol : IL := [(0, 1, 1, .aload_n 0), (1, 4, 3, .getfield 40), (4, 5, 1, .iload_n 1), (5, 8, 3, .invokevirtual 211), (8, 11, 3, .ifCond .eq 41), (11, 12, 1, .iload_n 2), (12, 15, 3, .ifCond .lt 37), (15, 16, 1, .iload_n 2), (16, 17, 1, .aload_n 0), (17, 20, 3, .getfield 40), (20, 21, 1, .iload_n 1), (21, 24, 3, .invokevirtual 215), (24, 27, 3, .if_icmp .ge 25), (27, 28, 1, .aload_n 0), (28, 31, 3, .getfield 40), (31, 34, 3, .getfield 217), (34, 35, 1, .aload_n 0), (35, 38, 3, .getfield 40), (38, 41, 3, .getfield 220), (41, 42, 1, .iload_n 1), (42, 43, 1, .iaload), (43, 44, 1, .iload_n 2), (44, 45, 1, .iadd), (45, 46, 1, .iaload), (46, 49, 3, .goto 4), (49, 50, 1, .iconst (-1)), (50, 51, 1, .ireturn)]
def ilX0_variable : IL := [(0, 1, 1, .aload_n 0), (1, 2, 1, .iload_n 1), (2, 5, 3, .invokevirtual 223), (5, 8, 3, .ifCond .ne 7), (8, 9, 1, .iconst (-1)), (9, 12, 3, .goto 20), (12, 13, 1, .aload_n 0), (13, 16, 3, .getfield 40), (16, 19, 3, .getfield 191), (19, 20, 1, .iload_n 1), (20, 21, 1, .baload), (21, 24, 3, .ifCond .eq 7), (24, 25, 1, .iconst 0), (25, 28, 3, .goto 4), (28, 29, 1, .iconst 1), (29, 30, 1, .ireturn)]
def ilX10_add : IL := [(0, 1, 1, .aload_n 0), (1, 4, 3, .getfield 9), (4, 5, 1, .aload_n 0), (5, 8, 3, .getfield 30), (8, 9, 1, .iload_n 1), (9, 10, 1, .iastore), (10, 11, 1, .aload_n 0), (11, 14, 3, .getfield 15), (14, 15, 1, .aload_n 0), (15, 18, 3, .getfield 30), (18, 19, 1, .iload_n 2), (19, 20, 1, .iastore), (20, 21, 1, .aload_n 0), (21, 24, 3, .getfield 18), (24, 25, 1, .aload_n 0), (25, 28, 3, .getfield 30), (28, 29, 1, .iload_n 3), (29, 30, 1, .iastore), (30, 31, 1, .aload_n 0), (31, 34, 3, .getfield 21), (34, 35, 1, .aload_n 0), (35, 38, 3, .getfield 30), (38, 39, 1, .iconst (-1)), (39, 40, 1, .iastore), (40, 41, 1, .aload_n 0), (41, 44, 3, .getfield 24), (44, 45, 1, .aload_n 0), (45, 48, 3, .getfield 30), (48, 49, 1, .iconst (-1)), (49, 50, 1, .iastore), (50, 51, 1, .aload_n 0), (51, 52, 1, .dup), (52, 55, 3, .getfield 30), (55, 56, 1, .iconst 1), (56, 57, 1, .iadd), (57, 60, 3, .putfield 30), (60, 61, 1, .aload_n 0), (61, 64, 3, .getfield 30), (64, 65, 1, .iconst 1), (65, 66, 1, .isub), (66, 67, 1, .ireturn)]
def ilX11_add : IL := [(0, 1, 1, .iload_n 3), (1, 4, 3, .ifCond .le 45), (4, 5, 1, .aload_n 0), (5, 8, 3, .getfield 60), (8, 9, 1, .iload_n 1), (9, 10, 1, .dup2), (10, 11, 1, .laload), (11, 12, 1, .iload_n 3), (12, 13, 1, .iconst 1), (13, 16, 3, .if_icmp .le 9), (16, 17, 1, .lconst 1), (17, 18, 1, .iload_n 2), (18, 19, 1, .lshl), (19, 22, 3, .goto 13), (22, 23, 1, .aload_n 0), (23, 26, 3, .getfield 56), (26, 27, 1, .iload_n 1), (27, 28, 1, .laload), (28, 29, 1, .lconst 1), (29, 30, 1, .iload_n 2), (30, 31, 1, .lshl), (31, 32, 1, .land), (32, 33, 1, .lor), (33, 34, 1, .lastore), (34, 35, 1, .aload_n 0), (35, 38, 3, .getfield 56), (38, 39, 1, .iload_n 1), (39, 40, 1, .dup2), (40, 41, 1, .laload), (41, 42, 1, .lconst 1), (42, 43, 1, .iload_n 2), (43, 44, 1, .lshl), (44, 45, 1, .lor), (45, 46, 1, .lastore), (46, 47, 1, .return_)]
def ilX11_sortOf : IL := [(0, 1, 1, .aload_n 0), (1, 4, 3, .getfield 27), (4, 5, 1, .iload_n 1), (5, 6, 1, .iaload), (6, 9, 3, .ifCond .ne 23), (9, 10, 1, .aload_n 0), (10, 11, 1, .dup), (11, 14, 3, .getfield 83), (14, 15, 1, .iconst 1), (15, 16, 1, .iadd), (16, 19, 3, .putfield 83), (19, 20, 1, .aload_n 0), (20, 23, 3, .getfield 27), (23, 24, 1, .iload_n 1), (24, 25, 1, .aload_n 0), (25, 28, 3, .getfield 83), (28, 29, 1, .iastore), (29, 30, 1, .aload_n 0), (30, 33, 3, .getfield 27), (33, 34, 1, .iload_n 1), (34, 35, 1, .iaload), (35, 36, 1, .iconst 1), (36, 37, 1, .isub), (37, 38, 1, .ireturn)]
def ilX11_typeOf : IL := [(0, 1, 1, .aload_n 0), (1, 2, 1, .aload_n 0), (2, 5, 3, .getfield 75), (5, 8, 3, .getfield 116), (8, 9, 1, .aload_n 0), (9, 12, 3, .getfield 75), (12, 15, 3, .getfield 119), (15, 16, 1, .aload_n 0), (16, 19, 3, .getfield 75), (19, 20, 1, .aload_n 0), (20, 23, 3, .getfield 9), (23, 24, 1, .iload_n 1), (24, 25, 1, .iaload), (25, 26, 1, .iload_n 2), (26, 29, 3, .invokevirtual 138), (29, 30, 1, .iaload), (30, 31, 1, .iaload), (31, 34, 3, .invokevirtual 151), (34, 35, 1, .ireturn)]
def ilX11_grow : IL := [(0, 1, 1, .iconst 0), (1, 2, 1, .istore_n 2), (2, 3, 1, .aload_n 0), (3, 6, 3, .getfield 18), (6, 7, 1, .iload_n 1), (7, 8, 1, .iaload), (8, 9, 1, .istore_n 3), (9, 10, 1, .iload_n 3), (10, 11, 1, .aload_n 0), (11, 14, 3, .getfield 18), (14, 15, 1, .iload_n 1), (15, 16, 1, .iconst 1), (16, 17, 1, .iadd), (17, 18, 1, .iaload), (18, 21, 3, .if_icmp .ge 157), (21, 22, 1, .aload_n 0), (22, 25, 3, .getfield 21), (25, 26, 1, .iload_n 3), (26, 27, 1, .iaload), (27, 30, 3, .ifCond .ge 12), (30, 31, 1, .aload_n 0), (31, 34, 3, .getfield 21), (34, 35, 1, .iload_n 3), (35, 36, 1, .iaload), (36, 39, 3, .goto 14), (39, 40, 1, .aload_n 0), (40, 41, 1, .iload_n 1), (41, 42, 1, .aload_n 0), (42, 45, 3, .getfield 21), (45, 46, 1, .iload_n 3), (46, 47, 1, .iaload), (47, 50, 3, .invokevirtual 161), (50, 52, 2, .istore 4), (52, 53, 1, .aload_n 0), (53, 56, 3, .getfield 33), (56, 57, 1, .iload_n 2), (57, 58, 1, .iaload), (58, 60, 2, .istore 5), (60, 62, 2, .iload 5), (62, 65, 3, .ifCond .lt 27), (65, 66, 1, .aload_n 0), (66, 69, 3, .getfield 30), (69, 71, 2, .iload 5), (71, 72, 1, .iaload), (72, 74, 2, .iload 4), (74, 77, 3, .if_icmp .eq 15), (77, 78, 1, .aload_n 0), (78, 81, 3, .getfield 36), (81, 83, 2, .iload 5), (83, 84, 1, .iaload), (84, 86, 2, .istore 5), (86, 89, 3, .goto (-26)), (89, 91, 2, .iload 5), (91, 94, 3, .ifCond .ge 75), (94, 95, 1, .aload_n 0), (95, 96, 1, .dup), (96, 99, 3, .getfield 79), (99, 100, 1, .dup_x1), (100, 101, 1, .iconst 1), (101, 102, 1, .iadd), (102, 105, 3, .putfield 79), (105, 107, 2, .istore 5), (107, 108, 1, .aload_n 0), (108, 111, 3, .getfield 30), (111, 113, 2, .iload 5), (113, 115, 2, .iload 4), (115, 116, 1, .iastore), (116, 117, 1, .aload_n 0), (117, 120, 3, .getfield 33), (120, 122, 2, .iload 5), (122, 123, 1, .iconst (-1)), (123, 124, 1, .iastore), (124, 125, 1, .aload_n 0), (125, 128, 3, .getfield 36), (128, 130, 2, .iload 5), (130, 131, 1, .aload_n 0), (131, 134, 3, .getfield 33), (134, 135, 1, .iload_n 2), (135, 136, 1, .iaload), (136, 137, 1, .iastore), (137, 138, 1, .aload_n 0), (138, 141, 3, .getfield 33), (141, 142, 1, .iload_n 2), (142, 144, 2, .iload 5), (144, 145, 1, .iastore), (145, 146, 1, .aload_n 0), (146, 149, 3, .getfield 39), (149, 151, 2, .iload 5), (151, 152, 1, .aload_n 0), (152, 155, 3, .getfield 9), (155, 156, 1, .iload_n 1), (156, 157, 1, .iaload), (157, 158, 1, .iastore), (158, 159, 1, .aload_n 0), (159, 162, 3, .getfield 42), (162, 164, 2, .iload 5), (164, 165, 1, .iconst (-1)), (165, 166, 1, .iastore), (166, 168, 2, .iload 5), (168, 169, 1, .istore_n 2), (169, 172, 3, .iinc 3 1), (172, 175, 3, .goto (-163)), (175, 176, 1, .aload_n 0), (176, 179, 3, .getfield 45), (179, 180, 1, .iload_n 1), (180, 181, 1, .aload_n 0), (181, 184, 3, .getfield 42), (184, 185, 1, .iload_n 2), (185, 186, 1, .iaload), (186, 187, 1, .iastore), (187, 188, 1, .aload_n 0), (188, 191, 3, .getfield 42), (191, 192, 1, .iload_n 2), (192, 193, 1, .iload_n 1), (193, 194, 1, .iastore), (194, 195, 1, .return_)]
def ilX11_length : IL := [(0, 1, 1, .aload_n 0), (1, 4, 3, .getfield 18), (4, 5, 1, .iload_n 1), (5, 6, 1, .iconst 1), (6, 7, 1, .iadd), (7, 8, 1, .iaload), (8, 9, 1, .aload_n 0), (9, 12, 3, .getfield 18), (12, 13, 1, .iload_n 1), (13, 14, 1, .iaload), (14, 15, 1, .isub), (15, 16, 1, .ireturn)]
def ilX11_placeOf : IL := [(0, 1, 1, .iconst 0), (1, 2, 1, .istore_n 3), (2, 3, 1, .aload_n 0), (3, 6, 3, .getfield 75), (6, 9, 3, .getfield 116), (9, 10, 1, .aload_n 0), (10, 13, 3, .getfield 75), (13, 16, 3, .getfield 119), (16, 17, 1, .aload_n 0), (17, 20, 3, .getfield 75), (20, 21, 1, .iload_n 1), (21, 22, 1, .iload_n 3), (22, 25, 3, .invokevirtual 138), (25, 26, 1, .iaload), (26, 27, 1, .iconst 1), (27, 28, 1, .iadd), (28, 29, 1, .iaload), (29, 30, 1, .iload_n 2), (30, 33, 3, .if_icmp .eq 9), (33, 36, 3, .iinc 3 1), (36, 39, 3, .goto (-34)), (39, 40, 1, .iload_n 3), (40, 41, 1, .ireturn)]
def ilX11_addRule : IL := [(0, 1, 1, .aload_n 0), (1, 2, 1, .dup), (2, 5, 3, .getfield 148), (5, 6, 1, .dup_x1), (6, 7, 1, .iconst 1), (7, 8, 1, .iadd), (8, 11, 3, .putfield 148), (11, 12, 1, .istore_n 2), (12, 13, 1, .aload_n 0), (13, 16, 3, .getfield 9), (16, 17, 1, .iload_n 2), (17, 18, 1, .iload_n 1), (18, 19, 1, .iastore), (19, 20, 1, .aload_n 0), (20, 23, 3, .getfield 24), (23, 24, 1, .iload_n 1), (24, 25, 1, .iload_n 2), (25, 26, 1, .iastore), (26, 27, 1, .aload_n 0), (27, 30, 3, .getfield 15), (30, 31, 1, .iload_n 2), (31, 32, 1, .aload_n 0), (32, 33, 1, .aload_n 0), (33, 36, 3, .getfield 75), (36, 39, 3, .getfield 116), (39, 40, 1, .aload_n 0), (40, 43, 3, .getfield 75), (43, 46, 3, .getfield 119), (46, 47, 1, .iload_n 1), (47, 48, 1, .iaload), (48, 49, 1, .iaload), (49, 52, 3, .invokevirtual 151), (52, 53, 1, .iastore), (53, 54, 1, .aload_n 0), (54, 57, 3, .getfield 18), (57, 58, 1, .iload_n 2), (58, 59, 1, .iconst 1), (59, 60, 1, .iadd), (60, 61, 1, .aload_n 0), (61, 64, 3, .getfield 18), (64, 65, 1, .iload_n 2), (65, 66, 1, .iaload), (66, 67, 1, .iastore), (67, 68, 1, .aload_n 0), (68, 71, 3, .getfield 75), (71, 74, 3, .getfield 119), (74, 75, 1, .iload_n 1), (75, 76, 1, .iaload), (76, 77, 1, .iconst 1), (77, 78, 1, .iadd), (78, 79, 1, .istore_n 3), (79, 80, 1, .iload_n 3), (80, 81, 1, .aload_n 0), (81, 84, 3, .getfield 75), (84, 87, 3, .getfield 119), (87, 88, 1, .iload_n 1), (88, 89, 1, .iconst 1), (89, 90, 1, .iadd), (90, 91, 1, .iaload), (91, 94, 3, .if_icmp .ge 65), (94, 95, 1, .aload_n 0), (95, 98, 3, .getfield 75), (98, 101, 3, .getfield 116), (101, 102, 1, .iload_n 3), (102, 103, 1, .iaload), (103, 105, 2, .istore 4), (105, 106, 1, .aload_n 0), (106, 109, 3, .getfield 21), (109, 110, 1, .aload_n 0), (110, 113, 3, .getfield 18), (113, 114, 1, .iload_n 2), (114, 115, 1, .iconst 1), (115, 116, 1, .iadd), (116, 117, 1, .dup2), (117, 118, 1, .iaload), (118, 119, 1, .dup_x2), (119, 120, 1, .iconst 1), (120, 121, 1, .iadd), (121, 122, 1, .iastore), (122, 123, 1, .aload_n 0), (123, 126, 3, .getfield 75), (126, 129, 3, .getfield 96), (129, 131, 2, .iload 4), (131, 132, 1, .baload), (132, 135, 3, .ifCond .eq 10), (135, 136, 1, .iconst (-1)), (136, 138, 2, .iload 4), (138, 139, 1, .isub), (139, 142, 3, .goto 10), (142, 143, 1, .aload_n 0), (143, 144, 1, .iload_n 1), (144, 146, 2, .iload 4), (146, 149, 3, .invokevirtual 154), (149, 150, 1, .iastore), (150, 153, 3, .iinc 3 1), (153, 156, 3, .goto (-74)), (156, 157, 1, .aload_n 0), (157, 158, 1, .iload_n 2), (158, 161, 3, .invokevirtual 157), (161, 163, 2, .bipush 60), (163, 166, 3, .if_icmp .ge 8), (166, 167, 1, .aload_n 0), (167, 168, 1, .iload_n 2), (168, 171, 3, .invokevirtual 158), (171, 172, 1, .return_)]
def ilX11_at : IL := [(0, 1, 1, .iload_n 0), (1, 3, 2, .bipush 61), (3, 4, 1, .imul), (4, 5, 1, .iload_n 1), (5, 6, 1, .iadd), (6, 8, 2, .bipush 61), (8, 9, 1, .imul), (9, 10, 1, .iload_n 2), (10, 11, 1, .iadd), (11, 12, 1, .ireturn)]
def ilX11_byOne : IL := [(0, 1, 1, .iconst 0), (1, 3, 2, .istore 4), (3, 4, 1, .aload_n 0), (4, 7, 3, .getfield 33), (7, 8, 1, .iconst 0), (8, 9, 1, .iaload), (9, 11, 2, .istore 5), (11, 13, 2, .iload 5), (13, 16, 3, .ifCond .lt 119), (16, 17, 1, .aload_n 0), (17, 20, 3, .getfield 30), (20, 22, 2, .iload 5), (22, 23, 1, .iaload), (23, 26, 3, .ifCond .ge 7), (26, 27, 1, .iconst 0), (27, 30, 3, .goto 20), (30, 31, 1, .aload_n 0), (31, 34, 3, .getfield 52), (34, 35, 1, .aload_n 0), (35, 38, 3, .getfield 30), (38, 40, 2, .iload 5), (40, 41, 1, .iaload), (41, 42, 1, .iload_n 2), (42, 43, 1, .iload_n 3), (43, 46, 3, .invokestatic 192), (46, 47, 1, .baload), (47, 49, 2, .istore 6), (49, 51, 2, .iload 6), (51, 54, 3, .ifCond .le 13), (54, 55, 1, .aload_n 0), (55, 58, 3, .getfield 42), (58, 60, 2, .iload 5), (60, 61, 1, .iaload), (61, 64, 3, .goto 4), (64, 65, 1, .iconst (-1)), (65, 67, 2, .istore 7), (67, 69, 2, .iload 7), (69, 72, 3, .ifCond .lt 51), (72, 74, 2, .iload 4), (74, 75, 1, .aload_n 0), (75, 78, 3, .getfield 9), (78, 80, 2, .iload 7), (80, 81, 1, .iaload), (81, 82, 1, .aload_n 0), (82, 85, 3, .getfield 180), (85, 88, 3, .if_icmp .ge 19), (88, 89, 1, .aload_n 0), (89, 92, 3, .getfield 15), (92, 94, 2, .iload 7), (94, 95, 1, .iaload), (95, 96, 1, .iload_n 1), (96, 99, 3, .if_icmp .ne 8), (99, 101, 2, .iload 6), (101, 104, 3, .goto 4), (104, 105, 1, .iconst 0), (105, 106, 1, .iadd), (106, 108, 2, .istore 4), (108, 109, 1, .aload_n 0), (109, 112, 3, .getfield 45), (112, 114, 2, .iload 7), (114, 115, 1, .iaload), (115, 117, 2, .istore 7), (117, 120, 3, .goto (-50)), (120, 121, 1, .aload_n 0), (121, 124, 3, .getfield 36), (124, 126, 2, .iload 5), (126, 127, 1, .iaload), (127, 129, 2, .istore 5), (129, 132, 3, .goto (-118)), (132, 133, 1, .iconst 2), (133, 135, 2, .iload 4), (135, 138, 3, .invokestatic 219), (138, 139, 1, .ireturn)]
def kX0_stands_l58 (v2 : Int) (v3 : Int) (v4 : Int) (K : Int → NW → OR) : Nat → Int → Int → NW → OR
  | 0, _, _, _ => none
  | n + 1, v5, v6, N => if (w32 (v3 - v2)) ≤ v6 then (K v5 N) else (if v5 = 0 then (K v5 N) else (ck (0 ≤ (w32 (v4 + v6)) ∧ (w32 (v4 + v6)) < 61) (ck (0 ≤ (w32 (v2 + v6)) ∧ (w32 (v2 + v6)) < 61) (lt (if (N 640 (w32 (v4 + v6))) = (N 640 (w32 (v2 + v6))) then (1 : Int) else 0) (fun x5_7 => kX0_stands_l58 v2 v3 v4 K n x5_7 (w32 (v6 + 1)) N)))))
def kX0_stands (n : Nat) (a1 : Int) (a2 : Int) (a3 : Int) (N : NW) : OR :=
  ck (0 ≤ a1 ∧ a1 < 1000) (if 0 ≤ (N 641 a1) then (ck (0 ≤ a1 ∧ a1 < 1000) (ck (0 ≤ a1 ∧ a1 < 1000) (lt (if (w32 ((N 642 a1) - (N 641 a1))) = (w32 (a3 - a2)) then (1 : Int) else 0) (fun x5_4 => kX0_stands_l58 a2 a3 (N 641 a1) (fun (x5_12 : Int) (N13 : NW) => (ck ((0 : Int) ≤ x5_12 ∧ x5_12 < 2) (some (x5_12, N13)) : OR)) n x5_4 0 N)))) else (ck (0 ≤ a1 ∧ a1 < 1000) (lt (up2 N 641 a1 a2) (fun N18 => ck (0 ≤ a1 ∧ a1 < 1000) (lt (up2 N18 642 a1 a3) (fun N20 => some (1, N20)))))))
def kX10_part_582 (n : Nat) (a1 : Int) (a2 : Int) (N : NW) : OR :=
  ck (0 ≤ a1 ∧ a1 < 12000) (some (w32 ((N 588 a1) + a2), N))
def kX0_match_l165 (v2 : Int) (v3 : Int) (v4 : Int) (v5 : Int) (K : Int → NW → OR) : Nat → Int → Int → NW → OR
  | 0, _, _, _ => none
  | n + 1, v1, v6, N => ck (0 ≤ v5 ∧ v5 < 1500) (bn (kX3_mandatory n (N 590 v5) N) (fun r20 N21 => if r20 ≤ v6 then (K v1 N21) else (if v2 = 0 then (K v1 N21) else (bn (kX10_part_575 n v3 v6 N21) (fun r23 N24 => ck (0 ≤ v1 ∧ v1 < 24000) (lt (up2 N24 636 v1 r23) (fun N27 => bn (kX10_part_582 n v4 v6 N27) (fun r28 N29 => ck (0 ≤ (w32 (v1 + 1)) ∧ (w32 (v1 + 1)) < 24000) (lt (up2 N29 636 (w32 (v1 + 1)) r28) (fun N32 => kX0_match_l165 v2 v3 v4 v5 K n (w32 (v1 + 2)) (w32 (v6 + 1)) N32))))))))))
def kX0_match_l26 (K : Int → NW → OR) : Nat → Int → Int → NW → OR
  | 0, _, _, _ => none
  | n + 1, v1, v2, N => if v1 ≤ 0 then (K v2 N) else (if v2 = 0 then (K v2 N) else (ck (0 ≤ (w32 (v1 + (-2))) ∧ (w32 (v1 + (-2))) < 24000) (ck (0 ≤ (w32 ((w32 (v1 + (-2))) + 1)) ∧ (w32 ((w32 (v1 + (-2))) + 1)) < 24000) (lt (N 636 (w32 ((w32 (v1 + (-2))) + 1))) (fun x4_10 => ck (0 ≤ (N 636 (w32 (v1 + (-2)))) ∧ (N 636 (w32 (v1 + (-2)))) < 12000) (lt (N 579 (N 636 (w32 (v1 + (-2))))) (fun x5_12 => lt (fun (x1_13 : Int) (x2_14 : Int) (N15 : NW) => (kX0_match_l26 K n x1_13 x2_14 N15 : OR)) (fun (J16 : Int → Int → NW → OR) => if 0 ≤ x5_12 then (ck (0 ≤ x4_10 ∧ x4_10 < 12000) (lt (if x5_12 = (N 586 x4_10) then (1 : Int) else 0) (fun x2_18 => kX0_match_l165 x2_18 (N 636 (w32 (v1 + (-2)))) x4_10 x5_12 (fun (x1_35 : Int) (N36 : NW) => (J16 x1_35 x2_18 N36 : OR)) n (w32 (v1 + (-2))) 0 N))) else (ck (0 ≤ (N 636 (w32 (v1 + (-2)))) ∧ (N 636 (w32 (v1 + (-2)))) < 12000) (ck (0 ≤ x4_10 ∧ x4_10 < 12000) (lt (fun (s41 : Int) (N42 : NW) => (J16 (w32 (v1 + (-2))) s41 N42 : OR)) (fun (J43 : Int → NW → OR) => lt (fun (N44 : NW) => (J43 0 N44 : OR)) (fun (J45 : NW → OR) => if (N 576 (N 636 (w32 (v1 + (-2))))) = (N 583 x4_10) then (ck (0 ≤ (N 636 (w32 (v1 + (-2)))) ∧ (N 636 (w32 (v1 + (-2)))) < 12000) (ck (0 ≤ x4_10 ∧ x4_10 < 12000) (ck (0 ≤ x4_10 ∧ x4_10 < 12000) (bn (kX0_stands n (N 580 (N 636 (w32 (v1 + (-2))))) (w32 ((N 584 x4_10) + 1)) (w32 ((N 585 x4_10) + 1)) N) (fun r49 N50 => if r49 = 0 then (J45 N50) else (J43 1 N50)))))) else (J45 N))))))))))))))
def kX0_match (n : Nat) (N : NW) : OR :=
  bn (kJ9_fill_641 n (-1) N) (fun r1 N2 => ck ((0 : Int) ≤ 0 ∧ (0 : Int) < 24000) (lt (up2 N2 636 0 0) (fun N5 => ck ((0 : Int) ≤ 1 ∧ (1 : Int) < 24000) (lt (up2 N5 636 1 0) (fun N7 => kX0_match_l26 (fun (x2_57 : Int) (N58 : NW) => (ck ((0 : Int) ≤ x2_57 ∧ x2_57 < 2) (some (x2_57, N58)) : OR)) n 2 1 N7)))))
def kX0_place (n : Nat) (N : NW) : OR :=
  some (N 512 9, N)
def kX0_row (n : Nat) (a1 : Int) (a2 : Int) (N : NW) : OR :=
  bn (kX0_isRow n a1 a2 N) (fun r1 N2 => if r1 = 0 then (some ((-1), N2)) else (ck (0 ≤ a2 ∧ a2 < 20000) (some (N2 567 a2, N2))))
def kX0_rows (n : Nat) (a1 : Int) (N : NW) : OR :=
  bn (kX0_isProved n a1 N) (fun r1 N2 => if r1 = 0 then (some ((-1), N2)) else (bn (kX8_of n a1 N2) (fun r4 N5 => some (N5 566 5, N5))))
def kX0_say (n : Nat) (a1 : Int) (N : NW) : OR :=
  if (N 512 13) = 24000 then (some (0, N)) else (lt (up2 N 512 13 (w32 ((N 512 13) + 1))) (fun N1 => ck ((0 ≤ (N 512 13) ∧ (N 512 13) < 24000) ∧ -128 ≤ (i2B a1) ∧ (i2B a1) < 128) (lt (up2 N1 574 (N 512 13) (i2B a1)) (fun N3 => some (1, N3)))))
def kX0_sayNumber_l28 (K : Int → NW → OR) : Nat → Int → Int → NW → OR
  | 0, _, _, _ => none
  | n + 1, v2, v3, N => if v3 ≤ 0 then (K v2 N) else (ck ((0 ≤ v2 ∧ v2 < 16) ∧ -128 ≤ (i2B (w32 (85 + (Int.tmod (w32 (v3 - 1)) 5)))) ∧ (i2B (w32 (85 + (Int.tmod (w32 (v3 - 1)) 5)))) < 128) (lt (up2 N 639 v2 (i2B (w32 (85 + (Int.tmod (w32 (v3 - 1)) 5))))) (fun N5 => lt (w32 (Int.tdiv (w32 (v3 - 1)) 5)) (fun x3_6 => kX0_sayNumber_l28 K n (w32 (v2 + 1)) x3_6 N5))))
def kX0_sayNumber_l61 (K : Int → NW → OR) : Nat → Int → Int → NW → OR
  | 0, _, _, _ => none
  | n + 1, v2, v3, N => if v2 ≤ 0 then (K v3 N) else (if v3 = 0 then (K v3 N) else (ck (0 ≤ (w32 (v2 + (-1))) ∧ (w32 (v2 + (-1))) < 16) (bn (kX0_say n (N 639 (w32 (v2 + (-1)))) N) (fun r11 N12 => kX0_sayNumber_l61 K n (w32 (v2 + (-1))) r11 N12))))
def kX0_sayNumber (n : Nat) (a1 : Int) (N : NW) : OR :=
  ck (((0 : Int) ≤ 0 ∧ (0 : Int) < 16) ∧ -128 ≤ (i2B (w32 (65 + (Int.tmod (w32 (a1 - 1)) 20)))) ∧ (i2B (w32 (65 + (Int.tmod (w32 (a1 - 1)) 20)))) < 128) (lt (up2 N 639 0 (i2B (w32 (65 + (Int.tmod (w32 (a1 - 1)) 20))))) (fun N2 => lt (w32 (Int.tdiv (w32 (a1 - 1)) 20)) (fun x3_3 => kX0_sayNumber_l28 (fun (x2_8 : Int) (N9 : NW) => (kX0_sayNumber_l61 (fun (x3_16 : Int) (N17 : NW) => (ck ((0 : Int) ≤ x3_16 ∧ x3_16 < 2) (some (x3_16, N17)) : OR)) n x2_8 1 N9 : OR)) n (w32 (0 + 1)) x3_3 N2)))
def kX0_size (n : Nat) (a1 : Int) (N : NW) : OR :=
  bn (kX0_isProved n a1 N) (fun r1 N2 => if r1 = 0 then (some ((-1), N2)) else (bn (kX0_sizeOf n a1 N2) (fun r4 N5 => some (r4, N5))))
def kX0_symbol (n : Nat) (a1 : Int) (a2 : Int) (N : NW) : OR :=
  bn (kX3_isIn n a1 N) (fun r1 N2 => if r1 = 0 then (some ((-1), N2)) else (if a2 < 0 then (some ((-1), N2)) else (bn (kX3_length n a1 N2) (fun r4 N5 => if r4 ≤ a2 then (some ((-1), N5)) else (ck (0 ≤ a1 ∧ a1 < 1501) (ck (0 ≤ (w32 ((N5 526 a1) + a2)) ∧ (w32 ((N5 526 a1) + a2)) < 30000) (some (N5 527 (w32 ((N5 526 a1) + a2)), N5))))))))
def kX0_variable (n : Nat) (a1 : Int) (N : NW) : OR :=
  bn (kX0_isSymbol n a1 N) (fun r1 N2 => if r1 = 0 then (some ((-1), N2)) else (ck (0 ≤ a1 ∧ a1 < 1000) (if (N2 521 a1) = 0 then (some (1, N2)) else (some (0, N2)))))
def kX10_add_575 (n : Nat) (a1 : Int) (a2 : Int) (a3 : Int) (N : NW) : OR :=
  ck (0 ≤ (N 575 6) ∧ (N 575 6) < 12000) (lt (up2 N 576 (N 575 6) a1) (fun N2 => ck (0 ≤ (N2 575 6) ∧ (N2 575 6) < 12000) (lt (up2 N2 577 (N2 575 6) a2) (fun N4 => ck (0 ≤ (N4 575 6) ∧ (N4 575 6) < 12000) (lt (up2 N4 578 (N4 575 6) a3) (fun N6 => ck (0 ≤ (N6 575 6) ∧ (N6 575 6) < 12000) (lt (up2 N6 579 (N6 575 6) (-1)) (fun N8 => ck (0 ≤ (N8 575 6) ∧ (N8 575 6) < 12000) (lt (up2 N8 580 (N8 575 6) (-1)) (fun N10 => lt (up2 N10 575 6 (w32 ((N10 575 6) + 1))) (fun N11 => some (w32 ((N11 575 6) - 1), N11))))))))))))
def kX10_add_582 (n : Nat) (a1 : Int) (a2 : Int) (a3 : Int) (N : NW) : OR :=
  ck (0 ≤ (N 582 6) ∧ (N 582 6) < 12000) (lt (up2 N 583 (N 582 6) a1) (fun N2 => ck (0 ≤ (N2 582 6) ∧ (N2 582 6) < 12000) (lt (up2 N2 584 (N2 582 6) a2) (fun N4 => ck (0 ≤ (N4 582 6) ∧ (N4 582 6) < 12000) (lt (up2 N4 585 (N4 582 6) a3) (fun N6 => ck (0 ≤ (N6 582 6) ∧ (N6 582 6) < 12000) (lt (up2 N6 586 (N6 582 6) (-1)) (fun N8 => ck (0 ≤ (N8 582 6) ∧ (N8 582 6) < 12000) (lt (up2 N8 587 (N8 582 6) (-1)) (fun N10 => lt (up2 N10 582 6 (w32 ((N10 582 6) + 1))) (fun N11 => some (w32 ((N11 582 6) - 1), N11))))))))))))
def kX11_add (n : Nat) (a1 : Int) (a2 : Int) (a3 : Int) (N : NW) : OR :=
  if a3 ≤ 0 then (some (0, N)) else (ck (0 ≤ a1 ∧ a1 < 30001) (lt (fun (s2 : Int) (N3 : NW) => (ck (0 ≤ a1 ∧ a1 < 30001) (lt (up2 N3 605 a1 (lOr (N 605 a1) s2)) (fun N6 => ck (0 ≤ a1 ∧ a1 < 30001) (ck (0 ≤ a1 ∧ a1 < 30001) (lt (up2 N6 604 a1 (lOr (N6 604 a1) (lShl 1 a2))) (fun N9 => some (0, N9)))))) : OR)) (fun (J4 : Int → NW → OR) => if a3 ≤ 1 then (ck (0 ≤ a1 ∧ a1 < 30001) (J4 (lAnd (N 604 a1) (lShl 1 a2)) N)) else (J4 (lShl 1 a2) N))))
def kX11_sortOf (n : Nat) (a1 : Int) (N : NW) : OR :=
  ck (0 ≤ a1 ∧ a1 < 1000) (lt (fun (N2 : NW) => (ck (0 ≤ a1 ∧ a1 < 1000) (some (w32 ((N2 595 a1) - 1), N2)) : OR)) (fun (J3 : NW → OR) => if (N 595 a1) = 0 then (lt (up2 N 589 9 (w32 ((N 589 9) + 1))) (fun N5 => ck (0 ≤ a1 ∧ a1 < 1000) (lt (up2 N5 595 a1 (N5 589 9)) (fun N7 => J3 N7)))) else (J3 N)))
def kX11_typeOf (n : Nat) (a1 : Int) (a2 : Int) (N : NW) : OR :=
  ck (0 ≤ a1 ∧ a1 < 1500) (bn (kX3_hypothesis n (N 590 a1) a2 N) (fun r2 N3 => ck (0 ≤ r2 ∧ r2 < 1501) (ck (0 ≤ (N3 526 r2) ∧ (N3 526 r2) < 30000) (bn (kX11_sortOf n (N3 527 (N3 526 r2)) N3) (fun r7 N8 => some (r7, N8))))))
def kX11_grow_l60 (v1 : Int) (v2 : Int) (v3 : Int) (v4 : Int) (K : Int → NW → OR) : Nat → Int → NW → OR
  | 0, _, _ => none
  | n + 1, v5, N => if v5 < 0 then (K v5 N) else (ck (0 ≤ v5 ∧ v5 < 30001) (if (N 596 v5) = v4 then (K v5 N) else (ck (0 ≤ v5 ∧ v5 < 30001) (kX11_grow_l60 v1 v2 v3 v4 K n (N 598 v5) N))))
def kX11_grow_l9 (v1 : Int) (K : Int → NW → OR) : Nat → Int → Int → NW → OR
  | 0, _, _, _ => none
  | n + 1, v2, v3, N => ck (0 ≤ (w32 (v1 + 1)) ∧ (w32 (v1 + 1)) < 1501) (if (N 592 (w32 (v1 + 1))) ≤ v3 then (K v2 N) else (ck (0 ≤ v3 ∧ v3 < 30000) (lt (fun (s4 : Int) (N5 : NW) => (ck (0 ≤ v2 ∧ v2 < 30001) (kX11_grow_l60 v1 v2 v3 s4 (fun (x5_12 : Int) (N13 : NW) => (lt (fun (x5_14 : Int) (N15 : NW) => (kX11_grow_l9 v1 K n x5_14 (w32 (v3 + 1)) N15 : OR)) (fun (J16 : Int → NW → OR) => if 0 ≤ x5_12 then (J16 x5_12 N13) else (lt (up2 N13 589 16 (w32 ((N13 589 16) + 1))) (fun N17 => ck (0 ≤ (N13 589 16) ∧ (N13 589 16) < 30001) (lt (up2 N17 596 (N13 589 16) s4) (fun N19 => ck (0 ≤ (N13 589 16) ∧ (N13 589 16) < 30001) (lt (up2 N19 597 (N13 589 16) (-1)) (fun N21 => ck (0 ≤ v2 ∧ v2 < 30001) (ck (0 ≤ (N13 589 16) ∧ (N13 589 16) < 30001) (lt (up2 N21 598 (N13 589 16) (N21 597 v2)) (fun N24 => ck (0 ≤ v2 ∧ v2 < 30001) (lt (up2 N24 597 v2 (N13 589 16)) (fun N26 => ck (0 ≤ v1 ∧ v1 < 1500) (ck (0 ≤ (N13 589 16) ∧ (N13 589 16) < 30001) (lt (up2 N26 599 (N13 589 16) (N26 590 v1)) (fun N29 => ck (0 ≤ (N13 589 16) ∧ (N13 589 16) < 30001) (lt (up2 N29 600 (N13 589 16) (-1)) (fun N31 => J16 (N13 589 16) N31))))))))))))))))) : OR)) n (N5 597 v2) N5) : OR)) (fun (J6 : Int → NW → OR) => if 0 ≤ (N 593 v3) then (ck (0 ≤ v3 ∧ v3 < 30000) (bn (kX11_typeOf n v1 (N 593 v3) N) (fun r34 N35 => J6 r34 N35))) else (ck (0 ≤ v3 ∧ v3 < 30000) (J6 (N 593 v3) N))))))
def kX11_grow (n : Nat) (a1 : Int) (N : NW) : OR :=
  ck (0 ≤ a1 ∧ a1 < 1501) (kX11_grow_l9 a1 (fun (x2_40 : Int) (N41 : NW) => (ck (0 ≤ x2_40 ∧ x2_40 < 30001) (ck (0 ≤ a1 ∧ a1 < 1500) (lt (up2 N41 601 a1 (N41 600 x2_40)) (fun N44 => ck (0 ≤ x2_40 ∧ x2_40 < 30001) (lt (up2 N44 600 x2_40 a1) (fun N46 => some (0, N46)))))) : OR)) n 0 (N 592 a1) N)
def kX11_length (n : Nat) (a1 : Int) (N : NW) : OR :=
  ck (0 ≤ (w32 (a1 + 1)) ∧ (w32 (a1 + 1)) < 1501) (ck (0 ≤ a1 ∧ a1 < 1501) (some (w32 ((N 592 (w32 (a1 + 1))) - (N 592 a1)), N)))
def kX11_placeOf_l2 (v1 : Int) (v2 : Int) (K : Int → NW → OR) : Nat → Int → NW → OR
  | 0, _, _ => none
  | n + 1, v3, N => bn (kX3_hypothesis n v1 v3 N) (fun r1 N2 => ck (0 ≤ r1 ∧ r1 < 1501) (ck (0 ≤ (w32 ((N2 526 r1) + 1)) ∧ (w32 ((N2 526 r1) + 1)) < 30000) (if (N2 527 (w32 ((N2 526 r1) + 1))) = v2 then (K v3 N2) else (kX11_placeOf_l2 v1 v2 K n (w32 (v3 + 1)) N2))))
def kX11_placeOf (n : Nat) (a1 : Int) (a2 : Int) (N : NW) : OR :=
  kX11_placeOf_l2 a1 a2 (fun (x3_7 : Int) (N8 : NW) => (some (x3_7, N8) : OR)) n 0 N
def kX11_addRule_l79 (v1 : Int) (v2 : Int) (K : NW → OR) : Nat → Int → NW → OR
  | 0, _, _ => none
  | n + 1, v3, N => ck (0 ≤ (w32 (v1 + 1)) ∧ (w32 (v1 + 1)) < 1501) (if (N 526 (w32 (v1 + 1))) ≤ v3 then (K N) else (ck (0 ≤ v3 ∧ v3 < 30000) (ck (0 ≤ (w32 (v2 + 1)) ∧ (w32 (v2 + 1)) < 1501) (ck (0 ≤ (w32 (v2 + 1)) ∧ (w32 (v2 + 1)) < 1501) (lt (up2 N 592 (w32 (v2 + 1)) (w32 ((N 592 (w32 (v2 + 1))) + 1))) (fun N21 => ck (0 ≤ (N 527 v3) ∧ (N 527 v3) < 1000) (lt (fun (s23 : Int) (N24 : NW) => (ck (0 ≤ (N 592 (w32 (v2 + 1))) ∧ (N 592 (w32 (v2 + 1))) < 30000) (lt (up2 N24 593 (N 592 (w32 (v2 + 1))) s23) (fun N27 => kX11_addRule_l79 v1 v2 K n (w32 (v3 + 1)) N27)) : OR)) (fun (J25 : Int → NW → OR) => if (N21 521 (N 527 v3)) = 0 then (bn (kX11_placeOf n v1 (N 527 v3) N21) (fun r28 N29 => J25 r28 N29)) else (J25 (w32 ((-1) - (N 527 v3))) N21)))))))))
def kX11_addRule (n : Nat) (a1 : Int) (N : NW) : OR :=
  lt (up2 N 589 6 (w32 ((N 589 6) + 1))) (fun N1 => ck (0 ≤ (N 589 6) ∧ (N 589 6) < 1500) (lt (up2 N1 590 (N 589 6) a1) (fun N3 => ck (0 ≤ a1 ∧ a1 < 1500) (lt (up2 N3 594 a1 (N 589 6)) (fun N5 => ck (0 ≤ a1 ∧ a1 < 1501) (ck (0 ≤ (N5 526 a1) ∧ (N5 526 a1) < 30000) (bn (kX11_sortOf n (N5 527 (N5 526 a1)) N5) (fun r8 N9 => ck (0 ≤ (N 589 6) ∧ (N 589 6) < 1500) (lt (up2 N9 591 (N 589 6) r8) (fun N12 => ck (0 ≤ (N 589 6) ∧ (N 589 6) < 1501) (ck (0 ≤ (w32 ((N 589 6) + 1)) ∧ (w32 ((N 589 6) + 1)) < 1501) (lt (up2 N12 592 (w32 ((N 589 6) + 1)) (N12 592 (N 589 6))) (fun N15 => ck (0 ≤ a1 ∧ a1 < 1501) (kX11_addRule_l79 a1 (N 589 6) (fun (N33 : NW) => (bn (kX11_length n (N 589 6) N33) (fun r34 N35 => if 60 ≤ r34 then (some (0, N35)) else (bn (kX11_grow n (N 589 6) N35) (fun r37 N38 => some (0, N38)))) : OR)) n (w32 ((N15 526 a1) + 1)) N15))))))))))))))
def kX11_at (n : Nat) (a0 : Int) (a1 : Int) (a2 : Int) (N : NW) : OR :=
  some (w32 ((w32 ((w32 ((w32 (a0 * 61)) + a1)) * 61)) + a2), N)
def kX11_byOne_l67 (v1 : Int) (v2 : Int) (v3 : Int) (v5 : Int) (v6 : Int) (K : Int → NW → OR) : Nat → Int → Int → NW → OR
  | 0, _, _, _ => none
  | n + 1, v4, v7, N => if v7 < 0 then (K v4 N) else (ck (0 ≤ v7 ∧ v7 < 1500) (lt (fun (s10 : Int) (N11 : NW) => (ck (0 ≤ v7 ∧ v7 < 1500) (kX11_byOne_l67 v1 v2 v3 v5 v6 K n (w32 (v4 + s10)) (N11 601 v7) N11) : OR)) (fun (J12 : Int → NW → OR) => lt (fun (N14 : NW) => (J12 0 N14 : OR)) (fun (J15 : NW → OR) => if (N 589 19) ≤ (N 590 v7) then (J15 N) else (ck (0 ≤ v7 ∧ v7 < 1500) (if (N 591 v7) = v1 then (J12 v6 N) else (J15 N)))))))
def kX11_byOne_l11 (v1 : Int) (v2 : Int) (v3 : Int) (K : Int → NW → OR) : Nat → Int → Int → NW → OR
  | 0, _, _, _ => none
  | n + 1, v4, v5, N => if v5 < 0 then (K v4 N) else (ck (0 ≤ v5 ∧ v5 < 30001) (lt (fun (s3 : Int) (N4 : NW) => (lt (fun (s6 : Int) (N7 : NW) => (kX11_byOne_l67 v1 v2 v3 v5 s3 (fun (x4_20 : Int) (N21 : NW) => (ck (0 ≤ v5 ∧ v5 < 30001) (kX11_byOne_l11 v1 v2 v3 K n x4_20 (N21 598 v5) N21) : OR)) n v4 s6 N7 : OR)) (fun (J8 : Int → NW → OR) => if s3 ≤ 0 then (J8 (-1) N4) else (ck (0 ≤ v5 ∧ v5 < 30001) (J8 (N4 600 v5) N4))) : OR)) (fun (J5 : Int → NW → OR) => if 0 ≤ (N 596 v5) then (ck (0 ≤ v5 ∧ v5 < 30001) (bn (kX11_at n (N 596 v5) v2 v3 N) (fun r26 N27 => ck (0 ≤ r26 ∧ r26 < 375821) (J5 (N27 603 r26) N27)))) else (J5 0 N))))
def kX11_byOne (n : Nat) (a1 : Int) (a2 : Int) (a3 : Int) (N : NW) : OR :=
  ck ((0 : Int) ≤ 0 ∧ (0 : Int) < 30001) (kX11_byOne_l11 a1 a2 a3 (fun (x4_32 : Int) (N33 : NW) => (some (iMin 2 x4_32, N33) : OR)) n 0 (N 597 0) N)
end

section
set_option maxRecDepth 100000
def ilX11_cut : IL := [(0, 1, 1, .iload_n 2), (1, 2, 1, .istore_n 3), (2, 3, 1, .aload_n 0), (3, 4, 1, .iload_n 1), (4, 7, 3, .invokevirtual 157), (7, 8, 1, .iconst 1), (8, 9, 1, .isub), (9, 11, 2, .istore 4), (11, 13, 2, .iload 4), (13, 16, 3, .ifCond .lt 102), (16, 17, 1, .aload_n 0), (17, 20, 3, .getfield 21), (20, 21, 1, .aload_n 0), (21, 24, 3, .getfield 18), (24, 25, 1, .iload_n 1), (25, 26, 1, .iaload), (26, 28, 2, .iload 4), (28, 29, 1, .iadd), (29, 30, 1, .iaload), (30, 32, 2, .istore 5), (32, 33, 1, .iload_n 3), (33, 34, 1, .iconst 1), (34, 35, 1, .isub), (35, 37, 2, .istore 6), (37, 39, 2, .iload 5), (39, 42, 3, .ifCond .lt 67), (42, 43, 1, .aload_n 0), (43, 44, 1, .iload_n 1), (44, 46, 2, .iload 5), (46, 49, 3, .invokevirtual 161), (49, 51, 2, .istore 7), (51, 52, 1, .aload_n 0), (52, 55, 3, .getfield 63), (55, 57, 2, .iload 4), (57, 59, 2, .bipush 61), (59, 60, 1, .imul), (60, 62, 2, .iload 6), (62, 63, 1, .iadd), (63, 64, 1, .baload), (64, 67, 3, .ifCond .eq 19), (67, 68, 1, .aload_n 0), (68, 71, 3, .getfield 52), (71, 73, 2, .iload 7), (73, 75, 2, .iload 6), (75, 76, 1, .iload_n 3), (76, 79, 3, .invokestatic 192), (79, 80, 1, .baload), (80, 83, 3, .ifCond .ne 9), (83, 86, 3, .iinc 6 (-1)), (86, 89, 3, .goto (-35)), (89, 90, 1, .aload_n 0), (90, 93, 3, .getfield 66), (93, 95, 2, .iload 5), (95, 97, 2, .iload 6), (97, 98, 1, .iastore), (98, 99, 1, .aload_n 0), (99, 102, 3, .getfield 69), (102, 104, 2, .iload 5), (104, 105, 1, .iload_n 3), (105, 106, 1, .iastore), (106, 108, 2, .iload 6), (108, 109, 1, .istore_n 3), (109, 112, 3, .iinc 4 (-1)), (112, 115, 3, .goto (-101)), (115, 116, 1, .return_)]
def ilX11_goOn : IL := [(0, 1, 1, .aload_n 0), (1, 4, 3, .getfield 33), (4, 5, 1, .iload_n 1), (5, 6, 1, .iaload), (6, 8, 2, .istore 4), (8, 10, 2, .iload 4), (10, 13, 3, .ifCond .lt 128), (13, 14, 1, .aload_n 0), (14, 17, 3, .getfield 39), (17, 19, 2, .iload 4), (19, 20, 1, .iaload), (20, 21, 1, .aload_n 0), (21, 24, 3, .getfield 180), (24, 27, 3, .if_icmp .lt 6), (27, 30, 3, .goto 99), (30, 31, 1, .aload_n 0), (31, 34, 3, .getfield 30), (34, 36, 2, .iload 4), (36, 37, 1, .iaload), (37, 39, 2, .istore 5), (39, 41, 2, .iload 5), (41, 44, 3, .ifCond .ge 29), (44, 45, 1, .aload_n 0), (45, 48, 3, .getfield 48), (48, 49, 1, .iload_n 2), (49, 50, 1, .iaload), (50, 51, 1, .iconst (-1)), (51, 53, 2, .iload 5), (53, 54, 1, .isub), (54, 57, 3, .if_icmp .ne 72), (57, 58, 1, .aload_n 0), (58, 60, 2, .iload 4), (60, 61, 1, .iload_n 2), (61, 62, 1, .iconst 1), (62, 63, 1, .iadd), (63, 64, 1, .iload_n 3), (64, 67, 3, .invokevirtual 207), (67, 70, 3, .goto 59), (70, 71, 1, .iload_n 1), (71, 74, 3, .ifCond .le 55), (74, 75, 1, .iload_n 2), (75, 76, 1, .iconst 1), (76, 77, 1, .iadd), (77, 79, 2, .istore 6), (79, 81, 2, .iload 6), (81, 82, 1, .aload_n 0), (82, 85, 3, .getfield 178), (85, 88, 3, .if_icmp .gt 41), (88, 89, 1, .aload_n 0), (89, 92, 3, .getfield 52), (92, 94, 2, .iload 5), (94, 95, 1, .iload_n 2), (95, 97, 2, .iload 6), (97, 100, 3, .invokestatic 192), (100, 101, 1, .baload), (101, 103, 2, .istore 7), (103, 105, 2, .iload 7), (105, 108, 3, .ifCond .le 15), (108, 109, 1, .aload_n 0), (109, 111, 2, .iload 4), (111, 113, 2, .iload 6), (113, 114, 1, .iload_n 3), (114, 116, 2, .iload 7), (116, 117, 1, .imul), (117, 120, 3, .invokevirtual 207), (120, 123, 3, .iinc 6 1), (123, 126, 3, .goto (-44)), (126, 127, 1, .aload_n 0), (127, 130, 3, .getfield 36), (130, 132, 2, .iload 4), (132, 133, 1, .iaload), (133, 135, 2, .istore 4), (135, 138, 3, .goto (-127)), (138, 139, 1, .return_)]
def ilX11_hasEssential : IL := [(0, 1, 1, .iconst 0), (1, 2, 1, .istore_n 2), (2, 3, 1, .iconst 0), (3, 4, 1, .istore_n 3), (4, 5, 1, .iload_n 3), (5, 6, 1, .aload_n 0), (6, 9, 3, .getfield 75), (9, 10, 1, .iload_n 1), (10, 13, 3, .invokevirtual 134), (13, 16, 3, .if_icmp .ge 38), (16, 17, 1, .iload_n 2), (17, 18, 1, .aload_n 0), (18, 21, 3, .getfield 75), (21, 24, 3, .getfield 113), (24, 25, 1, .aload_n 0), (25, 28, 3, .getfield 75), (28, 29, 1, .iload_n 1), (29, 30, 1, .iload_n 3), (30, 33, 3, .invokevirtual 138), (33, 34, 1, .iaload), (34, 35, 1, .iconst 1), (35, 38, 3, .if_icmp .ne 7), (38, 39, 1, .iconst 1), (39, 42, 3, .goto 4), (42, 43, 1, .iconst 0), (43, 44, 1, .ior), (44, 45, 1, .istore_n 2), (45, 48, 3, .iinc 3 1), (48, 51, 3, .goto (-44)), (51, 52, 1, .iload_n 2), (52, 53, 1, .ireturn)]
def ilX11_isRule : IL := [(0, 1, 1, .iconst 0), (1, 2, 1, .istore_n 3), (2, 3, 1, .aload_n 0), (3, 6, 3, .getfield 75), (6, 7, 1, .iload_n 1), (7, 10, 3, .invokevirtual 142), (10, 11, 1, .iconst 1), (11, 14, 3, .if_icmp .le 7), (14, 15, 1, .iconst 1), (15, 18, 3, .goto 4), (18, 19, 1, .iconst 0), (19, 21, 2, .istore 4), (21, 22, 1, .aload_n 0), (22, 25, 3, .getfield 75), (25, 28, 3, .getfield 119), (28, 29, 1, .iload_n 1), (29, 30, 1, .iaload), (30, 31, 1, .iconst 1), (31, 32, 1, .iadd), (32, 34, 2, .istore 5), (34, 36, 2, .iload 5), (36, 37, 1, .aload_n 0), (37, 40, 3, .getfield 75), (40, 43, 3, .getfield 119), (43, 44, 1, .iload_n 1), (44, 45, 1, .iconst 1), (45, 46, 1, .iadd), (46, 47, 1, .iaload), (47, 50, 3, .if_icmp .ge 79), (50, 51, 1, .aload_n 0), (51, 54, 3, .getfield 75), (54, 57, 3, .getfield 116), (57, 59, 2, .iload 5), (59, 60, 1, .iaload), (60, 62, 2, .istore 6), (62, 63, 1, .iload_n 3), (63, 64, 1, .aload_n 0), (64, 67, 3, .getfield 75), (67, 70, 3, .getfield 96), (70, 72, 2, .iload 6), (72, 73, 1, .baload), (73, 76, 3, .ifCond .eq 7), (76, 77, 1, .iconst 0), (77, 80, 3, .goto 4), (80, 81, 1, .iconst 1), (81, 82, 1, .iadd), (82, 83, 1, .istore_n 3), (83, 85, 2, .iload 4), (85, 86, 1, .aload_n 0), (86, 89, 3, .getfield 75), (89, 92, 3, .getfield 96), (92, 94, 2, .iload 6), (94, 95, 1, .baload), (95, 98, 3, .ifCond .ne 17), (98, 99, 1, .aload_n 0), (99, 102, 3, .getfield 75), (102, 105, 3, .getfield 145), (105, 107, 2, .iload 6), (107, 108, 1, .iaload), (108, 109, 1, .iload_n 2), (109, 112, 3, .if_icmp .eq 7), (112, 113, 1, .iconst 1), (113, 116, 3, .goto 4), (116, 117, 1, .iconst 0), (117, 118, 1, .iand), (118, 120, 2, .istore 4), (120, 123, 3, .iinc 5 1), (123, 126, 3, .goto (-89)), (126, 128, 2, .iload 4), (128, 131, 3, .ifCond .eq 19), (131, 132, 1, .iload_n 3), (132, 133, 1, .aload_n 0), (133, 136, 3, .getfield 75), (136, 137, 1, .iload_n 1), (137, 140, 3, .invokevirtual 134), (140, 143, 3, .if_icmp .ne 7), (143, 144, 1, .iconst 1), (144, 147, 3, .goto 4), (147, 148, 1, .iconst 0), (148, 149, 1, .ireturn)]
def ilX11_mayBe : IL := [(0, 1, 1, .iload_n 1), (1, 4, 3, .ifCond .ge 15), (4, 5, 1, .aload_n 0), (5, 8, 3, .getfield 48), (8, 9, 1, .iload_n 2), (9, 10, 1, .iaload), (10, 11, 1, .iconst (-1)), (11, 12, 1, .iload_n 1), (12, 13, 1, .isub), (13, 16, 3, .if_icmp .ne 7), (16, 17, 1, .iconst 1), (17, 20, 3, .goto 4), (20, 21, 1, .iconst 0), (21, 22, 1, .ireturn)]
def ilX11_step : IL := [(0, 1, 1, .aload_n 0), (1, 4, 3, .getfield 21), (4, 5, 1, .aload_n 0), (5, 8, 3, .getfield 18), (8, 9, 1, .iload_n 1), (9, 10, 1, .iaload), (10, 11, 1, .iload_n 2), (11, 12, 1, .iadd), (12, 13, 1, .iaload), (13, 15, 2, .istore 5), (15, 17, 2, .iload 5), (17, 20, 3, .ifCond .ge 41), (20, 21, 1, .aload_n 0), (21, 24, 3, .getfield 63), (24, 25, 1, .iload_n 2), (25, 26, 1, .iconst 1), (26, 27, 1, .iadd), (27, 29, 2, .bipush 61), (29, 30, 1, .imul), (30, 31, 1, .iload_n 3), (31, 32, 1, .iadd), (32, 33, 1, .iconst 1), (33, 34, 1, .iadd), (34, 35, 1, .dup2), (35, 36, 1, .baload), (36, 37, 1, .aload_n 0), (37, 40, 3, .getfield 48), (40, 41, 1, .iload_n 3), (41, 42, 1, .iaload), (42, 43, 1, .iconst (-1)), (43, 45, 2, .iload 5), (45, 46, 1, .isub), (46, 49, 3, .if_icmp .ne 7), (49, 50, 1, .iconst 1), (50, 53, 3, .goto 4), (53, 54, 1, .iconst 0), (54, 55, 1, .ior), (55, 56, 1, .i2b), (56, 57, 1, .bastore), (57, 58, 1, .return_), (58, 59, 1, .aload_n 0), (59, 60, 1, .iload_n 1), (60, 62, 2, .iload 5), (62, 65, 3, .invokevirtual 161), (65, 67, 2, .istore 6), (67, 68, 1, .iload_n 3), (68, 69, 1, .iconst 1), (69, 70, 1, .iadd), (70, 72, 2, .istore 7), (72, 74, 2, .iload 7), (74, 76, 2, .iload 4), (76, 79, 3, .if_icmp .gt 48), (79, 80, 1, .aload_n 0), (80, 83, 3, .getfield 63), (83, 84, 1, .iload_n 2), (84, 85, 1, .iconst 1), (85, 86, 1, .iadd), (86, 88, 2, .bipush 61), (88, 89, 1, .imul), (89, 91, 2, .iload 7), (91, 92, 1, .iadd), (92, 93, 1, .dup2), (93, 94, 1, .baload), (94, 95, 1, .aload_n 0), (95, 98, 3, .getfield 52), (98, 100, 2, .iload 6), (100, 101, 1, .iload_n 3), (101, 103, 2, .iload 7), (103, 106, 3, .invokestatic 192), (106, 107, 1, .baload), (107, 110, 3, .ifCond .le 7), (110, 111, 1, .iconst 1), (111, 114, 3, .goto 4), (114, 115, 1, .iconst 0), (115, 116, 1, .ior), (116, 117, 1, .i2b), (117, 118, 1, .bastore), (118, 121, 3, .iinc 7 1), (121, 124, 3, .goto (-49)), (124, 125, 1, .return_)]
def ilX11_makes : IL := [(0, 1, 1, .aload_n 0), (1, 2, 1, .iload_n 1), (2, 5, 3, .invokevirtual 157), (5, 7, 2, .istore 4), (7, 9, 2, .iload 4), (9, 10, 1, .iload_n 3), (10, 11, 1, .iload_n 2), (11, 12, 1, .isub), (12, 15, 3, .if_icmp .gt 47), (15, 16, 1, .aload_n 0), (16, 17, 1, .aload_n 0), (17, 20, 3, .getfield 21), (20, 21, 1, .aload_n 0), (21, 24, 3, .getfield 18), (24, 25, 1, .iload_n 1), (25, 26, 1, .iaload), (26, 27, 1, .iaload), (27, 28, 1, .iload_n 2), (28, 31, 3, .invokevirtual 258), (31, 34, 3, .ifCond .eq 28), (34, 35, 1, .aload_n 0), (35, 36, 1, .aload_n 0), (36, 39, 3, .getfield 21), (39, 40, 1, .aload_n 0), (40, 43, 3, .getfield 18), (43, 44, 1, .iload_n 1), (44, 45, 1, .iconst 1), (45, 46, 1, .iadd), (46, 47, 1, .iaload), (47, 48, 1, .iconst 1), (48, 49, 1, .isub), (49, 50, 1, .iaload), (50, 51, 1, .iload_n 3), (51, 52, 1, .iconst 1), (52, 53, 1, .isub), (53, 56, 3, .invokevirtual 258), (56, 59, 3, .ifCond .ne 5), (59, 60, 1, .iconst 0), (60, 61, 1, .ireturn), (61, 62, 1, .iconst 0), (62, 64, 2, .istore 5), (64, 66, 2, .iload 5), (66, 68, 2, .iload 4), (68, 71, 3, .if_icmp .gt 33), (71, 72, 1, .aload_n 0), (72, 75, 3, .getfield 63), (75, 77, 2, .iload 5), (77, 79, 2, .bipush 61), (79, 80, 1, .imul), (80, 81, 1, .iload_n 2), (81, 82, 1, .iadd), (82, 84, 2, .iload 5), (84, 86, 2, .bipush 61), (86, 87, 1, .imul), (87, 88, 1, .iload_n 3), (88, 89, 1, .iadd), (89, 90, 1, .iconst 1), (90, 91, 1, .iadd), (91, 92, 1, .iconst 0), (92, 95, 3, .invokestatic 183), (95, 98, 3, .iinc 5 1), (98, 101, 3, .goto (-34)), (101, 102, 1, .aload_n 0), (102, 105, 3, .getfield 63), (105, 106, 1, .iload_n 2), (106, 107, 1, .iconst 1), (107, 108, 1, .bastore), (108, 109, 1, .iconst 0), (109, 111, 2, .istore 5), (111, 113, 2, .iload 5), (113, 115, 2, .iload 4), (115, 118, 3, .if_icmp .ge 50), (118, 119, 1, .iload_n 2), (119, 121, 2, .istore 6), (121, 123, 2, .iload 6), (123, 124, 1, .iload_n 3), (124, 127, 3, .if_icmp .ge 35), (127, 128, 1, .aload_n 0), (128, 131, 3, .getfield 63), (131, 133, 2, .iload 5), (133, 135, 2, .bipush 61), (135, 136, 1, .imul), (136, 138, 2, .iload 6), (138, 139, 1, .iadd), (139, 140, 1, .baload), (140, 143, 3, .ifCond .le 13), (143, 144, 1, .aload_n 0), (144, 145, 1, .iload_n 1), (145, 147, 2, .iload 5), (147, 149, 2, .iload 6), (149, 150, 1, .iload_n 3), (150, 153, 3, .invokevirtual 261), (153, 156, 3, .iinc 6 1), (156, 159, 3, .goto (-35)), (159, 162, 3, .iinc 5 1), (162, 165, 3, .goto (-51)), (165, 166, 1, .aload_n 0), (166, 169, 3, .getfield 63), (169, 171, 2, .iload 4), (171, 173, 2, .bipush 61), (173, 174, 1, .imul), (174, 175, 1, .iload_n 3), (175, 176, 1, .iadd), (176, 177, 1, .baload), (177, 180, 3, .ifCond .le 7), (180, 181, 1, .iconst 1), (181, 184, 3, .goto 4), (184, 185, 1, .iconst 0), (185, 186, 1, .ireturn)]
def ilX11_waysTo : IL := [(0, 1, 1, .aload_n 0), (1, 4, 3, .getfield 56), (4, 5, 1, .iload_n 1), (5, 6, 1, .laload), (6, 7, 1, .iload_n 2), (7, 8, 1, .lshr), (8, 9, 1, .lconst 1), (9, 10, 1, .land), (10, 11, 1, .aload_n 0), (11, 14, 3, .getfield 60), (14, 15, 1, .iload_n 1), (15, 16, 1, .laload), (16, 17, 1, .iload_n 2), (17, 18, 1, .lshr), (18, 19, 1, .lconst 1), (19, 20, 1, .land), (20, 21, 1, .ladd), (21, 22, 1, .l2i), (22, 23, 1, .ireturn)]
def ilX12_areDifferent : IL := [(0, 1, 1, .aload_n 0), (1, 4, 3, .getfield 43), (4, 5, 1, .iconst (-1)), (5, 8, 3, .invokestatic 58), (8, 9, 1, .iconst 1), (9, 10, 1, .istore_n 2), (10, 11, 1, .iconst 0), (11, 12, 1, .istore_n 3), (12, 13, 1, .iload_n 3), (13, 14, 1, .aload_n 0), (14, 17, 3, .getfield 46), (17, 18, 1, .iload_n 1), (18, 21, 3, .invokevirtual 140), (21, 24, 3, .if_icmp .ge 68), (24, 25, 1, .iload_n 2), (25, 28, 3, .ifCond .eq 64), (28, 29, 1, .aload_n 0), (29, 32, 3, .getfield 54), (32, 35, 3, .getfield 144), (35, 36, 1, .aload_n 0), (36, 39, 3, .getfield 54), (39, 40, 1, .aload_n 0), (40, 43, 3, .getfield 129), (43, 44, 1, .iload_n 3), (44, 47, 3, .invokevirtual 125), (47, 48, 1, .iaload), (48, 50, 2, .istore 4), (50, 52, 2, .iload 4), (52, 55, 3, .ifCond .lt 17), (55, 56, 1, .aload_n 0), (56, 59, 3, .getfield 43), (59, 61, 2, .iload 4), (61, 62, 1, .iaload), (62, 65, 3, .ifCond .ge 7), (65, 66, 1, .iconst 1), (66, 69, 3, .goto 4), (69, 70, 1, .iconst 0), (70, 71, 1, .istore_n 2), (71, 72, 1, .iload_n 2), (72, 75, 3, .ifCond .eq 11), (75, 76, 1, .aload_n 0), (76, 79, 3, .getfield 43), (79, 81, 2, .iload 4), (81, 82, 1, .iload_n 3), (82, 83, 1, .iastore), (83, 86, 3, .iinc 3 1), (86, 89, 3, .goto (-74)), (89, 90, 1, .iload_n 2), (90, 91, 1, .ireturn)]
def ilX12_definedAt : IL := [(0, 1, 1, .aload_n 0), (1, 4, 3, .getfield 50), (4, 7, 3, .getfield 109), (7, 8, 1, .aload_n 0), (8, 11, 3, .getfield 54), (11, 14, 3, .getfield 106), (14, 15, 1, .iload_n 1), (15, 16, 1, .iaload), (16, 17, 1, .iaload), (17, 18, 1, .istore_n 3), (18, 19, 1, .aload_n 0), (19, 22, 3, .getfield 19), (22, 23, 1, .iload_n 3), (23, 24, 1, .iaload), (24, 27, 3, .ifCond .lt 17), (27, 28, 1, .aload_n 0), (28, 31, 3, .getfield 19), (31, 32, 1, .iload_n 3), (32, 33, 1, .iaload), (33, 34, 1, .iload_n 2), (34, 37, 3, .if_icmp .ge 7), (37, 38, 1, .iload_n 3), (38, 41, 3, .goto 4), (41, 42, 1, .iconst (-1)), (42, 43, 1, .ireturn)]
def ilX12_flip : IL := [(0, 1, 1, .aload_n 0), (1, 4, 3, .getfield 9), (4, 5, 1, .iload_n 1), (5, 6, 1, .aload_n 0), (6, 9, 3, .getfield 9), (9, 10, 1, .iload_n 1), (10, 11, 1, .baload), (11, 14, 3, .ifCond .ne 7), (14, 15, 1, .iconst 1), (15, 18, 3, .goto 4), (18, 19, 1, .iconst 0), (19, 20, 1, .bastore), (20, 21, 1, .aload_n 0), (21, 22, 1, .dup), (22, 25, 3, .getfield 64), (25, 26, 1, .aload_n 0), (26, 29, 3, .getfield 9), (29, 30, 1, .iload_n 1), (30, 31, 1, .baload), (31, 34, 3, .ifCond .eq 7), (34, 35, 1, .iconst 1), (35, 38, 3, .goto 4), (38, 39, 1, .iconst (-1)), (39, 40, 1, .iadd), (40, 43, 3, .putfield 64), (43, 44, 1, .aload_n 0), (44, 47, 3, .getfield 19), (47, 48, 1, .iconst (-1)), (48, 51, 3, .invokestatic 58), (51, 52, 1, .aload_n 0), (52, 53, 1, .iconst 0), (53, 56, 3, .putfield 68), (56, 57, 1, .aload_n 0), (57, 58, 1, .iconst 0), (58, 61, 3, .putfield 71), (61, 62, 1, .aload_n 0), (62, 65, 3, .getfield 64), (65, 66, 1, .ireturn)]
def ilX12_isMade : IL := [(0, 1, 1, .iconst 1), (1, 2, 1, .istore_n 2), (2, 3, 1, .iconst 1), (3, 4, 1, .istore_n 3), (4, 5, 1, .aload_n 0), (5, 8, 3, .getfield 34), (8, 9, 1, .iconst 0), (9, 10, 1, .aload_n 0), (10, 13, 3, .getfield 131), (13, 14, 1, .iastore), (14, 15, 1, .iload_n 3), (15, 18, 3, .ifCond .le 132), (18, 19, 1, .iload_n 2), (19, 22, 3, .ifCond .eq 128), (22, 23, 1, .aload_n 0), (23, 26, 3, .getfield 34), (26, 29, 3, .iinc 3 (-1)), (29, 30, 1, .iload_n 3), (30, 31, 1, .iaload), (31, 33, 2, .istore 4), (33, 34, 1, .aload_n 0), (34, 37, 3, .getfield 54), (37, 40, 3, .getfield 106), (40, 42, 2, .iload 4), (42, 43, 1, .iaload), (43, 45, 2, .istore 5), (45, 47, 2, .iload 5), (47, 50, 3, .ifCond .ge 29), (50, 51, 1, .aload_n 0), (51, 54, 3, .getfield 43), (54, 55, 1, .aload_n 0), (55, 58, 3, .getfield 54), (58, 61, 3, .getfield 144), (61, 63, 2, .iload 4), (63, 64, 1, .iaload), (64, 65, 1, .iaload), (65, 68, 3, .ifCond .lt 7), (68, 69, 1, .iconst 1), (69, 72, 3, .goto 18), (72, 73, 1, .iconst 0), (73, 76, 3, .goto 14), (76, 78, 2, .iload 5), (78, 79, 1, .iload_n 1), (79, 82, 3, .if_icmp .eq 7), (82, 83, 1, .iconst 1), (83, 86, 3, .goto 4), (86, 87, 1, .iconst 0), (87, 88, 1, .istore_n 2), (88, 89, 1, .iconst 0), (89, 91, 2, .istore 6), (91, 93, 2, .iload 5), (93, 96, 3, .ifCond .lt 51), (96, 98, 2, .iload 6), (98, 99, 1, .aload_n 0), (99, 102, 3, .getfield 46), (102, 103, 1, .aload_n 0), (103, 106, 3, .getfield 50), (106, 109, 3, .getfield 109), (109, 111, 2, .iload 5), (111, 112, 1, .iaload), (112, 115, 3, .invokevirtual 140), (115, 118, 3, .if_icmp .ge 29), (118, 119, 1, .aload_n 0), (119, 122, 3, .getfield 34), (122, 123, 1, .iload_n 3), (123, 126, 3, .iinc 3 1), (126, 127, 1, .aload_n 0), (127, 130, 3, .getfield 54), (130, 132, 2, .iload 4), (132, 134, 2, .iload 6), (134, 137, 3, .invokevirtual 125), (137, 138, 1, .iastore), (138, 141, 3, .iinc 6 1), (141, 144, 3, .goto (-50)), (144, 147, 3, .goto (-130)), (147, 148, 1, .iload_n 2), (148, 149, 1, .ireturn)]
def ilX13_number : IL := [(0, 1, 1, .aload_n 0), (1, 4, 3, .getfield 42), (4, 5, 1, .iload_n 1), (5, 6, 1, .iaload), (6, 9, 3, .ifCond .ge 29), (9, 10, 1, .aload_n 0), (10, 13, 3, .getfield 57), (13, 14, 1, .aload_n 0), (14, 17, 3, .getfield 9), (17, 20, 3, .invokevirtual 116), (20, 21, 1, .aload_n 0), (21, 24, 3, .getfield 113), (24, 25, 1, .iadd), (25, 26, 1, .aload_n 0), (26, 29, 3, .getfield 42), (29, 30, 1, .iload_n 1), (30, 31, 1, .iaload), (31, 32, 1, .isub), (32, 35, 3, .goto 16), (35, 36, 1, .aload_n 0), (36, 39, 3, .getfield 54), (39, 40, 1, .aload_n 0), (40, 43, 3, .getfield 42), (43, 44, 1, .iload_n 1), (44, 45, 1, .iaload), (45, 46, 1, .iconst 1), (46, 47, 1, .ishr), (47, 48, 1, .iaload), (48, 49, 1, .ireturn)]
def ilX2_begin : IL := [(0, 1, 1, .aload_n 0), (1, 2, 1, .iconst 0), (2, 5, 3, .putfield 29), (5, 6, 1, .aload_n 0), (6, 7, 1, .iconst 0), (7, 10, 3, .putfield 32), (10, 11, 1, .return_)]
def ilX2_fault : IL := [(0, 1, 1, .aload_n 0), (1, 4, 3, .getfield 16), (4, 5, 1, .iload_n 1), (5, 8, 3, .putfield 20), (8, 9, 1, .aload_n 0), (9, 12, 3, .getfield 16), (12, 13, 1, .iload_n 2), (13, 16, 3, .putfield 26), (16, 17, 1, .aload_n 0), (17, 20, 3, .getfield 16), (20, 21, 1, .areturn)]
def ilX2_has : IL := [(0, 1, 1, .iconst 0), (1, 2, 1, .istore_n 3), (2, 3, 1, .aload_n 0), (3, 6, 3, .getfield 29), (6, 8, 2, .istore 4), (8, 10, 2, .iload 4), (10, 11, 1, .iconst 1), (11, 12, 1, .iadd), (12, 13, 1, .aload_n 0), (13, 16, 3, .getfield 32), (16, 19, 3, .if_icmp .ge 41), (19, 20, 1, .iload_n 3), (20, 21, 1, .aload_n 0), (21, 24, 3, .getfield 10), (24, 26, 2, .iload 4), (26, 27, 1, .baload), (27, 28, 1, .iload_n 1), (28, 31, 3, .if_icmp .ne 20), (31, 32, 1, .aload_n 0), (32, 35, 3, .getfield 10), (35, 37, 2, .iload 4), (37, 38, 1, .iconst 1), (38, 39, 1, .iadd), (39, 40, 1, .baload), (40, 41, 1, .iload_n 2), (41, 44, 3, .if_icmp .ne 7), (44, 45, 1, .iconst 1), (45, 48, 3, .goto 4), (48, 49, 1, .iconst 0), (49, 50, 1, .ior), (50, 51, 1, .istore_n 3), (51, 54, 3, .iinc 4 1), (54, 57, 3, .goto (-46)), (57, 58, 1, .iload_n 3), (58, 59, 1, .ireturn)]
def ilX2_isBlank : IL := [(0, 1, 1, .iload_n 0), (1, 3, 2, .bipush 32), (3, 6, 3, .if_icmp .eq 27), (6, 7, 1, .iload_n 0), (7, 9, 2, .bipush 9), (9, 12, 3, .if_icmp .eq 21), (12, 13, 1, .iload_n 0), (13, 15, 2, .bipush 10), (15, 18, 3, .if_icmp .eq 15), (18, 19, 1, .iload_n 0), (19, 21, 2, .bipush 12), (21, 24, 3, .if_icmp .eq 9), (24, 25, 1, .iload_n 0), (25, 27, 2, .bipush 13), (27, 30, 3, .if_icmp .ne 7), (30, 31, 1, .iconst 1), (31, 34, 3, .goto 4), (34, 35, 1, .iconst 0), (35, 36, 1, .ireturn)]
def ilX2_isLabel : IL := [(0, 1, 1, .iconst 1), (1, 2, 1, .istore_n 1), (2, 3, 1, .aload_n 0), (3, 6, 3, .getfield 29), (6, 7, 1, .istore_n 2), (7, 8, 1, .iload_n 2), (8, 9, 1, .aload_n 0), (9, 12, 3, .getfield 32), (12, 15, 3, .if_icmp .ge 78), (15, 16, 1, .aload_n 0), (16, 19, 3, .getfield 10), (19, 20, 1, .iload_n 2), (20, 21, 1, .baload), (21, 22, 1, .istore_n 3), (22, 23, 1, .iload_n 1), (23, 24, 1, .iload_n 3), (24, 26, 2, .bipush 97), (26, 29, 3, .if_icmp .lt 9), (29, 30, 1, .iload_n 3), (30, 32, 2, .bipush 122), (32, 35, 3, .if_icmp .le 45), (35, 36, 1, .iload_n 3), (36, 38, 2, .bipush 65), (38, 41, 3, .if_icmp .lt 9), (41, 42, 1, .iload_n 3), (42, 44, 2, .bipush 90), (44, 47, 3, .if_icmp .le 33), (47, 48, 1, .iload_n 3), (48, 50, 2, .bipush 48), (50, 53, 3, .if_icmp .lt 9), (53, 54, 1, .iload_n 3), (54, 56, 2, .bipush 57), (56, 59, 3, .if_icmp .le 21), (59, 60, 1, .iload_n 3), (60, 62, 2, .bipush 46), (62, 65, 3, .if_icmp .eq 15), (65, 66, 1, .iload_n 3), (66, 68, 2, .bipush 45), (68, 71, 3, .if_icmp .eq 9), (71, 72, 1, .iload_n 3), (72, 74, 2, .bipush 95), (74, 77, 3, .if_icmp .ne 7), (77, 78, 1, .iconst 1), (78, 81, 3, .goto 4), (81, 82, 1, .iconst 0), (82, 83, 1, .iand), (83, 84, 1, .istore_n 1), (84, 87, 3, .iinc 2 1), (87, 90, 3, .goto (-80)), (90, 91, 1, .iload_n 1), (91, 92, 1, .ireturn)]
def ilX2_isSigned : IL := [(0, 1, 1, .iconst 0), (1, 2, 1, .istore_n 1), (2, 3, 1, .aload_n 0), (3, 6, 3, .getfield 29), (6, 7, 1, .istore_n 2), (7, 8, 1, .iload_n 2), (8, 9, 1, .aload_n 0), (9, 12, 3, .getfield 32), (12, 15, 3, .if_icmp .ge 28), (15, 16, 1, .iload_n 1), (16, 17, 1, .aload_n 0), (17, 20, 3, .getfield 10), (20, 21, 1, .iload_n 2), (21, 22, 1, .baload), (22, 24, 2, .bipush 36), (24, 27, 3, .if_icmp .ne 7), (27, 28, 1, .iconst 1), (28, 31, 3, .goto 4), (31, 32, 1, .iconst 0), (32, 33, 1, .ior), (33, 34, 1, .istore_n 1), (34, 37, 3, .iinc 2 1), (37, 40, 3, .goto (-30)), (40, 41, 1, .iload_n 1), (41, 42, 1, .ireturn)]
def ilX2_key : IL := [(0, 1, 1, .aload_n 0), (1, 4, 3, .getfield 32), (4, 5, 1, .aload_n 0), (5, 8, 3, .getfield 29), (8, 11, 3, .if_icmp .ne 7), (11, 12, 1, .iconst (-1)), (12, 15, 3, .goto 25), (15, 16, 1, .aload_n 0), (16, 19, 3, .invokevirtual 70), (19, 22, 3, .ifCond .eq 17), (22, 23, 1, .aload_n 0), (23, 26, 3, .getfield 10), (26, 27, 1, .aload_n 0), (27, 30, 3, .getfield 29), (30, 31, 1, .iconst 1), (31, 32, 1, .iadd), (32, 33, 1, .baload), (33, 36, 3, .goto 4), (36, 37, 1, .iconst 0), (37, 38, 1, .ireturn)]
def ilX3_addBeginning : IL := [(0, 1, 1, .aload_n 0), (1, 2, 1, .dup), (2, 5, 3, .getfield 122), (5, 6, 1, .aload_n 0), (6, 9, 3, .getfield 39), (9, 10, 1, .iload_n 1), (10, 11, 1, .iaload), (11, 14, 3, .ifCond .ne 7), (14, 15, 1, .iconst 1), (15, 18, 3, .goto 4), (18, 19, 1, .iconst 0), (19, 20, 1, .iadd), (20, 23, 3, .putfield 122), (23, 24, 1, .aload_n 0), (24, 27, 3, .getfield 39), (27, 28, 1, .iload_n 1), (28, 29, 1, .dup2), (29, 30, 1, .iaload), (30, 31, 1, .iconst 1), (31, 32, 1, .iadd), (32, 33, 1, .iastore), (33, 34, 1, .return_)]
def kX11_cut_l51 (v1 : Int) (v3 : Int) (v4 : Int) (v5 : Int) (v7 : Int) (K : Int → NW → OR) : Nat → Int → NW → OR
  | 0, _, _ => none
  | n + 1, v6, N => ck (0 ≤ (w32 ((w32 (v4 * 61)) + v6)) ∧ (w32 ((w32 (v4 * 61)) + v6)) < 3721) (lt (fun (N14 : NW) => (kX11_cut_l51 v1 v3 v4 v5 v7 K n (w32 (v6 + (-1))) N14 : OR)) (fun (J15 : NW → OR) => if (N 606 (w32 ((w32 (v4 * 61)) + v6))) = 0 then (J15 N) else (bn (kX11_at n v7 v6 v3 N) (fun r16 N17 => ck (0 ≤ r16 ∧ r16 < 375821) (if (N17 603 r16) = 0 then (J15 N17) else (K v6 N17))))))
def kX11_cut_l11 (v1 : Int) (K : NW → OR) : Nat → Int → Int → NW → OR
  | 0, _, _, _ => none
  | n + 1, v3, v4, N => if v4 < 0 then (K N) else (ck (0 ≤ v1 ∧ v1 < 1501) (ck (0 ≤ (w32 ((N 592 v1) + v4)) ∧ (w32 ((N 592 v1) + v4)) < 30000) (lt (N 593 (w32 ((N 592 v1) + v4))) (fun x5_6 => lt (fun (x6_7 : Int) (N8 : NW) => (kX11_cut_l11 v1 K n x6_7 (w32 (v4 + (-1))) N8 : OR)) (fun (J9 : Int → NW → OR) => if x5_6 < 0 then (J9 (w32 (v3 - 1)) N) else (bn (kX11_typeOf n v1 x5_6 N) (fun r10 N11 => kX11_cut_l51 v1 v3 v4 x5_6 r10 (fun (x6_22 : Int) (N23 : NW) => (ck (0 ≤ x5_6 ∧ x5_6 < 60) (lt (up2 N23 607 x5_6 x6_22) (fun N25 => ck (0 ≤ x5_6 ∧ x5_6 < 60) (lt (up2 N25 608 x5_6 v3) (fun N27 => J9 x6_22 N27)))) : OR)) n (w32 (v3 - 1)) N11)))))))
def kX11_cut (n : Nat) (a1 : Int) (a2 : Int) (N : NW) : OR :=
  bn (kX11_length n a1 N) (fun r1 N2 => kX11_cut_l11 a1 (fun (N30 : NW) => (some (0, N30) : OR)) n a2 (w32 (r1 - 1)) N2)
def kX11_goOn_l79 (v1 : Int) (v2 : Int) (v3 : Int) (v4 : Int) (v5 : Int) (K : NW → OR) : Nat → Int → NW → OR
  | 0, _, _ => none
  | n + 1, v6, N => if (N 589 18) < v6 then (K N) else (bn (kX11_at n v5 v2 v6 N) (fun r7 N8 => ck (0 ≤ r7 ∧ r7 < 375821) (lt (fun (N11 : NW) => (kX11_goOn_l79 v1 v2 v3 v4 v5 K n (w32 (v6 + 1)) N11 : OR)) (fun (J12 : NW → OR) => if (N8 603 r7) ≤ 0 then (J12 N8) else (bn (kX11_add n v4 v6 (w32 (v3 * (N8 603 r7))) N8) (fun r13 N14 => J12 N14))))))
def kX11_goOn_l8 (v1 : Int) (v2 : Int) (v3 : Int) (K : NW → OR) : Nat → Int → NW → OR
  | 0, _, _ => none
  | n + 1, v4, N => if v4 < 0 then (K N) else (ck (0 ≤ v4 ∧ v4 < 30001) (lt (fun (N3 : NW) => (ck (0 ≤ v4 ∧ v4 < 30001) (kX11_goOn_l8 v1 v2 v3 K n (N3 598 v4) N3) : OR)) (fun (J4 : NW → OR) => if (N 599 v4) < (N 589 19) then (ck (0 ≤ v4 ∧ v4 < 30001) (if 0 ≤ (N 596 v4) then (if v1 ≤ 0 then (J4 N) else (kX11_goOn_l79 v1 v2 v3 v4 (N 596 v4) (fun (N18 : NW) => (J4 N18 : OR)) n (w32 (v2 + 1)) N)) else (ck (0 ≤ v2 ∧ v2 < 60) (if (N 602 v2) = (w32 ((-1) - (N 596 v4))) then (bn (kX11_add n v4 (w32 (v2 + 1)) v3 N) (fun r21 N22 => J4 N22)) else (J4 N))))) else (J4 N))))
def kX11_goOn (n : Nat) (a1 : Int) (a2 : Int) (a3 : Int) (N : NW) : OR :=
  ck (0 ≤ a1 ∧ a1 < 30001) (kX11_goOn_l8 a1 a2 a3 (fun (N28 : NW) => (some (0, N28) : OR)) n (N 597 a1) N)
def kX11_hasEssential_l4 (v1 : Int) (K : Int → NW → OR) : Nat → Int → Int → NW → OR
  | 0, _, _, _ => none
  | n + 1, v2, v3, N => bn (kX3_mandatory n v1 N) (fun r1 N2 => if r1 ≤ v3 then (K v2 N2) else (bn (kX3_hypothesis n v1 v3 N2) (fun r4 N5 => ck (0 ≤ r4 ∧ r4 < 1500) (lt (iOr v2 (if (N5 524 r4) = 1 then (1 : Int) else 0)) (fun x2_8 => kX11_hasEssential_l4 v1 K n x2_8 (w32 (v3 + 1)) N5)))))
def kX11_hasEssential (n : Nat) (a1 : Int) (N : NW) : OR :=
  kX11_hasEssential_l4 a1 (fun (x2_12 : Int) (N13 : NW) => (ck ((0 : Int) ≤ x2_12 ∧ x2_12 < 2) (some (x2_12, N13)) : OR)) n 0 0 N
def kX11_isRule_l34 (v1 : Int) (v2 : Int) (K : Int → Int → NW → OR) : Nat → Int → Int → Int → NW → OR
  | 0, _, _, _, _ => none
  | n + 1, v3, v4, v5, N => ck (0 ≤ (w32 (v1 + 1)) ∧ (w32 (v1 + 1)) < 1501) (if (N 526 (w32 (v1 + 1))) ≤ v5 then (K v3 v4 N) else (ck (0 ≤ v5 ∧ v5 < 30000) (ck (0 ≤ (N 527 v5) ∧ (N 527 v5) < 1000) (lt (w32 (v3 + (if (N 521 (N 527 v5)) = 0 then (1 : Int) else 0))) (fun x3_9 => ck (0 ≤ (N 527 v5) ∧ (N 527 v5) < 1000) (lt (fun (s11 : Int) (N12 : NW) => (kX11_isRule_l34 v1 v2 K n x3_9 (iAnd v4 s11) (w32 (v5 + 1)) N12 : OR)) (fun (J13 : Int → NW → OR) => lt (fun (N14 : NW) => (J13 1 N14 : OR)) (fun (J15 : NW → OR) => if (N 521 (N 527 v5)) = 0 then (ck (0 ≤ (N 527 v5) ∧ (N 527 v5) < 1000) (J13 (if (N 522 (N 527 v5)) = v2 then (0 : Int) else 1) N)) else (J15 N)))))))))
def kX11_isRule (n : Nat) (a1 : Int) (a2 : Int) (N : NW) : OR :=
  bn (kX3_length n a1 N) (fun r1 N2 => lt (if r1 ≤ 1 then (0 : Int) else 1) (fun x4_4 => ck (0 ≤ a1 ∧ a1 < 1501) (kX11_isRule_l34 a1 a2 (fun (x3_23 : Int) (x4_24 : Int) (N25 : NW) => (if x4_24 = 0 then (some (0, N25)) else (bn (kX3_mandatory n a1 N25) (fun r26 N27 => if x3_23 = r26 then (some (1, N27)) else (some (0, N27)))) : OR)) n 0 x4_4 (w32 ((N2 526 a1) + 1)) N2)))
def kX11_mayBe (n : Nat) (a1 : Int) (a2 : Int) (N : NW) : OR :=
  lt (fun (N1 : NW) => (some (1, N1) : OR)) (fun (J2 : NW → OR) => if 0 ≤ a1 then (J2 N) else (ck (0 ≤ a2 ∧ a2 < 60) (some (if (N 602 a2) = (w32 ((-1) - a1)) then (1 : Int) else 0, N))))
def kX11_step_l72 (v2 : Int) (v3 : Int) (v4 : Int) (v6 : Int) (K : NW → OR) : Nat → Int → NW → OR
  | 0, _, _ => none
  | n + 1, v7, N => if v4 < v7 then (K N) else (ck (0 ≤ (w32 ((w32 ((w32 (v2 + 1)) * 61)) + v7)) ∧ (w32 ((w32 ((w32 (v2 + 1)) * 61)) + v7)) < 3721) (bn (kX11_at n v6 v3 v7 N) (fun r8 N9 => ck (0 ≤ r8 ∧ r8 < 375821) (ck ((0 ≤ (w32 ((w32 ((w32 (v2 + 1)) * 61)) + v7)) ∧ (w32 ((w32 ((w32 (v2 + 1)) * 61)) + v7)) < 3721) ∧ -128 ≤ (i2B (iOr (N 606 (w32 ((w32 ((w32 (v2 + 1)) * 61)) + v7))) (if (N9 603 r8) ≤ 0 then (0 : Int) else 1))) ∧ (i2B (iOr (N 606 (w32 ((w32 ((w32 (v2 + 1)) * 61)) + v7))) (if (N9 603 r8) ≤ 0 then (0 : Int) else 1))) < 128) (lt (up2 N9 606 (w32 ((w32 ((w32 (v2 + 1)) * 61)) + v7)) (i2B (iOr (N 606 (w32 ((w32 ((w32 (v2 + 1)) * 61)) + v7))) (if (N9 603 r8) ≤ 0 then (0 : Int) else 1)))) (fun N13 => kX11_step_l72 v2 v3 v4 v6 K n (w32 (v7 + 1)) N13))))))
def kX11_step (n : Nat) (a1 : Int) (a2 : Int) (a3 : Int) (a4 : Int) (N : NW) : OR :=
  ck (0 ≤ a1 ∧ a1 < 1501) (ck (0 ≤ (w32 ((N 592 a1) + a2)) ∧ (w32 ((N 592 a1) + a2)) < 30000) (lt (N 593 (w32 ((N 592 a1) + a2))) (fun x5_3 => if 0 ≤ x5_3 then (bn (kX11_typeOf n a1 x5_3 N) (fun r4 N5 => kX11_step_l72 a2 a3 a4 r4 (fun (N17 : NW) => (some (0, N17) : OR)) n (w32 (a3 + 1)) N5)) else (ck (0 ≤ (w32 ((w32 ((w32 ((w32 (a2 + 1)) * 61)) + a3)) + 1)) ∧ (w32 ((w32 ((w32 ((w32 (a2 + 1)) * 61)) + a3)) + 1)) < 3721) (ck (0 ≤ a3 ∧ a3 < 60) (ck ((0 ≤ (w32 ((w32 ((w32 ((w32 (a2 + 1)) * 61)) + a3)) + 1)) ∧ (w32 ((w32 ((w32 ((w32 (a2 + 1)) * 61)) + a3)) + 1)) < 3721) ∧ -128 ≤ (i2B (iOr (N 606 (w32 ((w32 ((w32 ((w32 (a2 + 1)) * 61)) + a3)) + 1))) (if (N 602 a3) = (w32 ((-1) - x5_3)) then (1 : Int) else 0))) ∧ (i2B (iOr (N 606 (w32 ((w32 ((w32 ((w32 (a2 + 1)) * 61)) + a3)) + 1))) (if (N 602 a3) = (w32 ((-1) - x5_3)) then (1 : Int) else 0))) < 128) (lt (up2 N 606 (w32 ((w32 ((w32 ((w32 (a2 + 1)) * 61)) + a3)) + 1)) (i2B (iOr (N 606 (w32 ((w32 ((w32 ((w32 (a2 + 1)) * 61)) + a3)) + 1))) (if (N 602 a3) = (w32 ((-1) - x5_3)) then (1 : Int) else 0)))) (fun N21 => some (0, N21)))))))))
def kX11_makes_l64 (v1 : Int) (v2 : Int) (v3 : Int) (v4 : Int) (K : NW → OR) : Nat → Int → NW → OR
  | 0, _, _ => none
  | n + 1, v5, N => if v4 < v5 then (K N) else (bn (kJ9_fill_3_606 n (w32 ((w32 (v5 * 61)) + v2)) (w32 ((w32 ((w32 (v5 * 61)) + v3)) + 1)) 0 N) (fun r14 N15 => kX11_makes_l64 v1 v2 v3 v4 K n (w32 (v5 + 1)) N15))
def kX11_makes_l121 (v1 : Int) (v2 : Int) (v3 : Int) (v4 : Int) (v5 : Int) (K : NW → OR) : Nat → Int → NW → OR
  | 0, _, _ => none
  | n + 1, v6, N => if v3 ≤ v6 then (K N) else (ck (0 ≤ (w32 ((w32 (v5 * 61)) + v6)) ∧ (w32 ((w32 (v5 * 61)) + v6)) < 3721) (lt (fun (N22 : NW) => (kX11_makes_l121 v1 v2 v3 v4 v5 K n (w32 (v6 + 1)) N22 : OR)) (fun (J23 : NW → OR) => if (N 606 (w32 ((w32 (v5 * 61)) + v6))) ≤ 0 then (J23 N) else (bn (kX11_step n v1 v5 v6 v3 N) (fun r24 N25 => J23 N25)))))
def kX11_makes_l111 (v1 : Int) (v2 : Int) (v3 : Int) (v4 : Int) (K : NW → OR) : Nat → Int → NW → OR
  | 0, _, _ => none
  | n + 1, v5, N => if v4 ≤ v5 then (K N) else (kX11_makes_l121 v1 v2 v3 v4 v5 (fun (N29 : NW) => (kX11_makes_l111 v1 v2 v3 v4 K n (w32 (v5 + 1)) N29 : OR)) n v2 N)
def kX11_makes (n : Nat) (a1 : Int) (a2 : Int) (a3 : Int) (N : NW) : OR :=
  bn (kX11_length n a1 N) (fun r1 N2 => if (w32 (a3 - a2)) < r1 then (some (0, N2)) else (ck (0 ≤ a1 ∧ a1 < 1501) (ck (0 ≤ (N2 592 a1) ∧ (N2 592 a1) < 30000) (bn (kX11_mayBe n (N2 593 (N2 592 a1)) a2 N2) (fun r6 N7 => if r6 = 0 then (some (0, N7)) else (ck (0 ≤ (w32 (a1 + 1)) ∧ (w32 (a1 + 1)) < 1501) (ck (0 ≤ (w32 ((N7 592 (w32 (a1 + 1))) - 1)) ∧ (w32 ((N7 592 (w32 (a1 + 1))) - 1)) < 30000) (bn (kX11_mayBe n (N7 593 (w32 ((N7 592 (w32 (a1 + 1))) - 1))) (w32 (a3 - 1)) N7) (fun r11 N12 => if r11 = 0 then (some (0, N12)) else (kX11_makes_l64 a1 a2 a3 r1 (fun (N18 : NW) => (ck ((0 ≤ a2 ∧ a2 < 3721) ∧ (-128 : Int) ≤ 1 ∧ (1 : Int) < 128) (lt (up2 N18 606 a2 1) (fun N20 => kX11_makes_l111 a1 a2 a3 r1 (fun (N31 : NW) => (ck (0 ≤ (w32 ((w32 (r1 * 61)) + a3)) ∧ (w32 ((w32 (r1 * 61)) + a3)) < 3721) (some (if (N31 606 (w32 ((w32 (r1 * 61)) + a3))) ≤ 0 then (0 : Int) else 1, N31)) : OR)) n 0 N20)) : OR)) n 0 N12))))))))))
def kX11_waysTo (n : Nat) (a1 : Int) (a2 : Int) (N : NW) : OR :=
  ck (0 ≤ a1 ∧ a1 < 30001) (ck (0 ≤ a1 ∧ a1 < 30001) (some (l2I (w64 ((lAnd (lShr (N 604 a1) a2) 1) + (lAnd (lShr (N 605 a1) a2) 1))), N)))
def kX12_areDifferent_l12 (v1 : Int) (K : Int → NW → OR) : Nat → Int → Int → NW → OR
  | 0, _, _, _ => none
  | n + 1, v2, v3, N => bn (kX3_mandatory n v1 N) (fun r4 N5 => if r4 ≤ v3 then (K v2 N5) else (if v2 = 0 then (K v2 N5) else (bn (kX10_part_575 n (N5 610 19) v3 N5) (fun r7 N8 => ck (0 ≤ r7 ∧ r7 < 12000) (lt (fun (s11 : Int) (N12 : NW) => (lt (fun (N14 : NW) => (kX12_areDifferent_l12 v1 K n s11 (w32 (v3 + 1)) N14 : OR)) (fun (J15 : NW → OR) => if s11 = 0 then (J15 N12) else (ck (0 ≤ (N8 580 r7) ∧ (N8 580 r7) < 1000) (lt (up2 N12 621 (N8 580 r7) v3) (fun N17 => J15 N17)))) : OR)) (fun (J13 : Int → NW → OR) => lt (fun (N19 : NW) => (J13 0 N19 : OR)) (fun (J20 : NW → OR) => if (N8 580 r7) < 0 then (J20 N8) else (ck (0 ≤ (N8 580 r7) ∧ (N8 580 r7) < 1000) (if 0 ≤ (N8 621 (N8 580 r7)) then (J20 N8) else (J13 1 N8))))))))))
def kX12_areDifferent (n : Nat) (a1 : Int) (N : NW) : OR :=
  bn (kJ9_fill_621 n (-1) N) (fun r1 N2 => kX12_areDifferent_l12 a1 (fun (x2_26 : Int) (N27 : NW) => (ck ((0 : Int) ≤ x2_26 ∧ x2_26 < 2) (some (x2_26, N27)) : OR)) n 1 0 N2)
def kX12_definedAt (n : Nat) (a1 : Int) (a2 : Int) (N : NW) : OR :=
  ck (0 ≤ a1 ∧ a1 < 12000) (ck (0 ≤ (N 579 a1) ∧ (N 579 a1) < 1500) (ck (0 ≤ (N 590 (N 579 a1)) ∧ (N 590 (N 579 a1)) < 1500) (if (N 613 (N 590 (N 579 a1))) < 0 then (some ((-1), N)) else (ck (0 ≤ (N 590 (N 579 a1)) ∧ (N 590 (N 579 a1)) < 1500) (if a2 ≤ (N 613 (N 590 (N 579 a1))) then (some ((-1), N)) else (some (N 590 (N 579 a1), N)))))))
def kX12_flip (n : Nat) (a1 : Int) (N : NW) : OR :=
  ck (0 ≤ a1 ∧ a1 < 1500) (ck (0 ≤ a1 ∧ a1 < 1500) (lt (up2 N 611 a1 (if (N 611 a1) = 0 then (1 : Int) else 0)) (fun N3 => ck (0 ≤ a1 ∧ a1 < 1500) (lt (up2 N3 610 4 (w32 ((N3 610 4) + (if (N3 611 a1) = 0 then ((-1) : Int) else 1)))) (fun N5 => bn (kJ9_fill_613 n (-1) N5) (fun r6 N7 => lt (up2 N7 610 11 0) (fun N9 => lt (up2 N9 610 12 0) (fun N10 => some (N10 610 4, N10)))))))))
def kX12_isMade_l91 (v1 : Int) (v2 : Int) (v4 : Int) (v5 : Int) (K : Int → NW → OR) : Nat → Int → Int → NW → OR
  | 0, _, _, _ => none
  | n + 1, v3, v6, N => if v5 < 0 then (K v3 N) else (ck (0 ≤ v5 ∧ v5 < 1500) (bn (kX3_mandatory n (N 590 v5) N) (fun r10 N11 => if r10 ≤ v6 then (K v3 N11) else (bn (kX10_part_575 n v4 v6 N11) (fun r13 N14 => ck (0 ≤ v3 ∧ v3 < 12000) (lt (up2 N14 618 v3 r13) (fun N17 => kX12_isMade_l91 v1 v2 v4 v5 K n (w32 (v3 + 1)) (w32 (v6 + 1)) N17)))))))
def kX12_isMade_l14 (v1 : Int) (K : Int → NW → OR) : Nat → Int → Int → NW → OR
  | 0, _, _, _ => none
  | n + 1, v2, v3, N => if v3 ≤ 0 then (K v2 N) else (if v2 = 0 then (K v2 N) else (ck (0 ≤ (w32 (v3 + (-1))) ∧ (w32 (v3 + (-1))) < 12000) (ck (0 ≤ (N 618 (w32 (v3 + (-1)))) ∧ (N 618 (w32 (v3 + (-1)))) < 12000) (lt (N 579 (N 618 (w32 (v3 + (-1))))) (fun x5_5 => lt (fun (s6 : Int) (N7 : NW) => (kX12_isMade_l91 v1 s6 (N 618 (w32 (v3 + (-1)))) x5_5 (fun (x3_20 : Int) (N21 : NW) => (kX12_isMade_l14 v1 K n s6 x3_20 N21 : OR)) n (w32 (v3 + (-1))) 0 N7 : OR)) (fun (J8 : Int → NW → OR) => if 0 ≤ x5_5 then (if x5_5 = v1 then (J8 0 N) else (J8 1 N)) else (ck (0 ≤ (N 618 (w32 (v3 + (-1)))) ∧ (N 618 (w32 (v3 + (-1)))) < 12000) (ck (0 ≤ (N 580 (N 618 (w32 (v3 + (-1))))) ∧ (N 580 (N 618 (w32 (v3 + (-1))))) < 1000) (if (N 621 (N 580 (N 618 (w32 (v3 + (-1)))))) < 0 then (J8 0 N) else (J8 1 N))))))))))
def kX12_isMade (n : Nat) (a1 : Int) (N : NW) : OR :=
  ck ((0 : Int) ≤ 0 ∧ (0 : Int) < 12000) (lt (up2 N 618 0 (N 610 20)) (fun N2 => kX12_isMade_l14 a1 (fun (x2_29 : Int) (N30 : NW) => (ck ((0 : Int) ≤ x2_29 ∧ x2_29 < 2) (some (x2_29, N30)) : OR)) n 1 1 N2))
def kX13_number (n : Nat) (a1 : Int) (N : NW) : OR :=
  ck (0 ≤ a1 ∧ a1 < 20001) (if 0 ≤ (N 631 a1) then (ck (0 ≤ a1 ∧ a1 < 20001) (ck (0 ≤ (iShr (N 631 a1) 1) ∧ (iShr (N 631 a1) 1) < 1500) (some (N 635 (iShr (N 631 a1) 1), N)))) else (bn (kX3_mandatory n (N 622 1) N) (fun r4 N5 => ck (0 ≤ a1 ∧ a1 < 20001) (some (w32 ((w32 (r4 + (N5 622 17))) - (N5 631 a1)), N5)))))
def kX2_begin (n : Nat) (N : NW) : OR :=
  lt (up2 N 514 2 0) (fun N1 => lt (up2 N1 514 3 0) (fun N2 => some (0, N2)))
def kX2_fault (n : Nat) (a1 : Int) (a2 : Int) (N : NW) : OR :=
  lt (up2 N 513 6 a1) (fun N1 => lt (up2 N1 513 7 a2) (fun N2 => some (0, N2)))
def kX2_has_l8 (v1 : Int) (v2 : Int) (K : Int → NW → OR) : Nat → Int → Int → NW → OR
  | 0, _, _, _ => none
  | n + 1, v3, v4, N => if (N 514 3) ≤ (w32 (v4 + 1)) then (K v3 N) else (ck (0 ≤ v4 ∧ v4 < 60032) (lt (fun (s2 : Int) (N3 : NW) => (kX2_has_l8 v1 v2 K n (iOr v3 s2) (w32 (v4 + 1)) N3 : OR)) (fun (J4 : Int → NW → OR) => lt (fun (N5 : NW) => (J4 0 N5 : OR)) (fun (J6 : NW → OR) => if (N 515 v4) = v1 then (ck (0 ≤ (w32 (v4 + 1)) ∧ (w32 (v4 + 1)) < 60032) (if (N 515 (w32 (v4 + 1))) = v2 then (J4 1 N) else (J6 N))) else (J6 N)))))
def kX2_has (n : Nat) (a1 : Int) (a2 : Int) (N : NW) : OR :=
  kX2_has_l8 a1 a2 (fun (x3_11 : Int) (N12 : NW) => (ck ((0 : Int) ≤ x3_11 ∧ x3_11 < 2) (some (x3_11, N12)) : OR)) n 0 (N 514 2) N
def kX2_isBlank (n : Nat) (a0 : Int) (N : NW) : OR :=
  lt (fun (N1 : NW) => (some (1, N1) : OR)) (fun (J2 : NW → OR) => if a0 = 32 then (J2 N) else (if a0 = 9 then (J2 N) else (if a0 = 10 then (J2 N) else (if a0 = 12 then (J2 N) else (some (if a0 = 13 then (1 : Int) else 0, N))))))
def kX2_isLabel_l7 (K : Int → NW → OR) : Nat → Int → Int → NW → OR
  | 0, _, _, _ => none
  | n + 1, v1, v2, N => if (N 514 3) ≤ v2 then (K v1 N) else (ck (0 ≤ v2 ∧ v2 < 60032) (lt (fun (s2 : Int) (N3 : NW) => (kX2_isLabel_l7 K n (iAnd v1 s2) (w32 (v2 + 1)) N3 : OR)) (fun (J4 : Int → NW → OR) => lt (fun (N5 : NW) => (J4 1 N5 : OR)) (fun (J6 : NW → OR) => lt (fun (N7 : NW) => (lt (fun (N9 : NW) => (lt (fun (N11 : NW) => (if (N 515 v2) = 46 then (J6 N11) else (if (N 515 v2) = 45 then (J6 N11) else (J4 (if (N 515 v2) = 95 then (1 : Int) else 0) N11)) : OR)) (fun (J12 : NW → OR) => if (N 515 v2) < 48 then (J12 N9) else (if (N 515 v2) ≤ 57 then (J6 N9) else (J12 N9))) : OR)) (fun (J10 : NW → OR) => if (N 515 v2) < 65 then (J10 N7) else (if (N 515 v2) ≤ 90 then (J6 N7) else (J10 N7))) : OR)) (fun (J8 : NW → OR) => if (N 515 v2) < 97 then (J8 N) else (if (N 515 v2) ≤ 122 then (J6 N) else (J8 N)))))))
def kX2_isLabel (n : Nat) (N : NW) : OR :=
  kX2_isLabel_l7 (fun (x1_24 : Int) (N25 : NW) => (ck ((0 : Int) ≤ x1_24 ∧ x1_24 < 2) (some (x1_24, N25)) : OR)) n 1 (N 514 2) N
def kX2_isSigned_l7 (K : Int → NW → OR) : Nat → Int → Int → NW → OR
  | 0, _, _, _ => none
  | n + 1, v1, v2, N => if (N 514 3) ≤ v2 then (K v1 N) else (ck (0 ≤ v2 ∧ v2 < 60032) (lt (iOr v1 (if (N 515 v2) = 36 then (1 : Int) else 0)) (fun x1_2 => kX2_isSigned_l7 K n x1_2 (w32 (v2 + 1)) N)))
def kX2_isSigned (n : Nat) (N : NW) : OR :=
  kX2_isSigned_l7 (fun (x1_6 : Int) (N7 : NW) => (ck ((0 : Int) ≤ x1_6 ∧ x1_6 < 2) (some (x1_6, N7)) : OR)) n 0 (N 514 2) N
def kX2_key (n : Nat) (N : NW) : OR :=
  if (N 514 3) = (N 514 2) then (some ((-1), N)) else (bn (kX2_isSigned n N) (fun r1 N2 => if r1 = 0 then (some (0, N2)) else (ck (0 ≤ (w32 ((N2 514 2) + 1)) ∧ (w32 ((N2 514 2) + 1)) < 60032) (some (N2 515 (w32 ((N2 514 2) + 1)), N2)))))
def kX3_addBeginning (n : Nat) (a1 : Int) (N : NW) : OR :=
  ck (0 ≤ a1 ∧ a1 < 1000) (lt (up2 N 516 8 (w32 ((N 516 8) + (if (N 523 a1) = 0 then (1 : Int) else 0)))) (fun N2 => ck (0 ≤ a1 ∧ a1 < 1000) (ck (0 ≤ a1 ∧ a1 < 1000) (lt (up2 N2 523 a1 (w32 ((N2 523 a1) + 1))) (fun N5 => some (0, N5))))))
end

section
set_option maxRecDepth 100000
def ilX3_endBeginning : IL := [(0, 1, 1, .aload_n 0), (1, 4, 3, .getfield 39), (4, 5, 1, .iload_n 1), (5, 6, 1, .dup2), (6, 7, 1, .iaload), (7, 8, 1, .iconst 1), (8, 9, 1, .isub), (9, 10, 1, .iastore), (10, 11, 1, .aload_n 0), (11, 12, 1, .dup), (12, 15, 3, .getfield 122), (15, 16, 1, .aload_n 0), (16, 19, 3, .getfield 39), (19, 20, 1, .iload_n 1), (20, 21, 1, .iaload), (21, 24, 3, .ifCond .ne 7), (24, 25, 1, .iconst 1), (25, 28, 3, .goto 4), (28, 29, 1, .iconst 0), (29, 30, 1, .isub), (30, 33, 3, .putfield 122), (33, 34, 1, .return_)]
def ilX4_pairKey : IL := [(0, 3, 3, .sipush 1024), (3, 4, 1, .iload_n 0), (4, 5, 1, .iload_n 1), (5, 8, 3, .invokestatic 52), (8, 9, 1, .imul), (9, 10, 1, .iload_n 0), (10, 11, 1, .iload_n 1), (11, 14, 3, .invokestatic 58), (14, 15, 1, .iadd), (15, 16, 1, .ireturn)]
def ilX4_addApart : IL := [(0, 1, 1, .iload_n 1), (1, 2, 1, .iload_n 2), (2, 5, 3, .invokestatic 61), (5, 6, 1, .istore_n 3), (6, 7, 1, .aload_n 0), (7, 10, 3, .getfield 35), (10, 11, 1, .iload_n 3), (11, 13, 2, .bipush 6), (13, 14, 1, .ishr), (14, 15, 1, .dup2), (15, 16, 1, .laload), (16, 17, 1, .lconst 1), (17, 18, 1, .iload_n 3), (18, 20, 2, .bipush 63), (20, 21, 1, .iand), (21, 22, 1, .lshl), (22, 23, 1, .lor), (23, 24, 1, .lastore), (24, 25, 1, .aload_n 0), (25, 28, 3, .getfield 32), (28, 29, 1, .aload_n 0), (29, 32, 3, .getfield 68), (32, 33, 1, .iload_n 3), (33, 34, 1, .iastore), (34, 35, 1, .aload_n 0), (35, 36, 1, .dup), (36, 39, 3, .getfield 68), (39, 40, 1, .iconst 1), (40, 41, 1, .iadd), (41, 44, 3, .putfield 68), (44, 45, 1, .return_)]
def ilX4_isApart : IL := [(0, 1, 1, .iload_n 1), (1, 2, 1, .iload_n 2), (2, 5, 3, .invokestatic 61), (5, 6, 1, .istore_n 3), (6, 7, 1, .aload_n 0), (7, 10, 3, .getfield 35), (10, 11, 1, .iload_n 3), (11, 13, 2, .bipush 6), (13, 14, 1, .ishr), (14, 15, 1, .laload), (15, 16, 1, .iload_n 3), (16, 18, 2, .bipush 63), (18, 19, 1, .iand), (19, 20, 1, .lshr), (20, 21, 1, .lconst 1), (21, 22, 1, .land), (22, 23, 1, .lconst 1), (23, 24, 1, .lcmp), (24, 27, 3, .ifCond .ne 7), (27, 28, 1, .iconst 1), (28, 31, 3, .goto 4), (31, 32, 1, .iconst 0), (32, 33, 1, .ireturn)]
def ilX4_isStep : IL := [(0, 1, 1, .aload_n 0), (1, 4, 3, .getfield 42), (4, 5, 1, .iload_n 1), (5, 8, 3, .invokevirtual 112), (8, 11, 3, .ifCond .ne 12), (11, 12, 1, .aload_n 0), (12, 15, 3, .getfield 19), (15, 16, 1, .iload_n 1), (16, 17, 1, .baload), (17, 20, 3, .ifCond .eq 7), (20, 21, 1, .iconst 1), (21, 24, 3, .goto 4), (24, 25, 1, .iconst 0), (25, 26, 1, .ireturn)]
def ilX5_add : IL := [(0, 1, 1, .aload_n 0), (1, 4, 3, .getfield 46), (4, 7, 3, .getfield 122), (7, 8, 1, .iload_n 1), (8, 9, 1, .baload), (9, 12, 3, .ifCond .eq 7), (12, 13, 1, .iconst 0), (13, 16, 3, .goto 9), (16, 17, 1, .aload_n 0), (17, 20, 3, .getfield 28), (20, 21, 1, .iload_n 1), (21, 22, 1, .iaload), (22, 23, 1, .istore_n 2), (23, 24, 1, .aload_n 0), (24, 27, 3, .getfield 46), (27, 30, 3, .getfield 122), (30, 31, 1, .iload_n 1), (31, 32, 1, .baload), (32, 35, 3, .ifCond .eq 7), (35, 36, 1, .iconst 1), (36, 39, 3, .goto 11), (39, 40, 1, .aload_n 0), (40, 43, 3, .getfield 31), (43, 44, 1, .iload_n 1), (44, 45, 1, .iaload), (45, 46, 1, .iload_n 2), (46, 47, 1, .isub), (47, 48, 1, .istore_n 3), (48, 49, 1, .aload_n 0), (49, 52, 3, .getfield 116), (52, 53, 1, .iload_n 3), (53, 54, 1, .iadd), (54, 57, 3, .sipush 1000), (57, 60, 3, .if_icmp .le 5), (60, 61, 1, .iconst 0), (61, 62, 1, .ireturn), (62, 63, 1, .aload_n 0), (63, 66, 3, .getfield 46), (66, 69, 3, .getfield 122), (69, 70, 1, .iload_n 1), (70, 71, 1, .baload), (71, 74, 3, .ifCond .eq 16), (74, 75, 1, .aload_n 0), (75, 78, 3, .getfield 25), (78, 79, 1, .aload_n 0), (79, 82, 3, .getfield 116), (82, 83, 1, .iload_n 1), (83, 84, 1, .iastore), (84, 87, 3, .goto 20), (87, 88, 1, .aload_n 0), (88, 91, 3, .getfield 10), (91, 92, 1, .iload_n 2), (92, 93, 1, .aload_n 0), (93, 96, 3, .getfield 25), (96, 97, 1, .aload_n 0), (97, 100, 3, .getfield 116), (100, 101, 1, .iload_n 3), (101, 104, 3, .invokestatic 57), (104, 105, 1, .aload_n 0), (105, 106, 1, .dup), (106, 109, 3, .getfield 116), (109, 110, 1, .iload_n 3), (110, 111, 1, .iadd), (111, 114, 3, .putfield 116), (114, 115, 1, .iconst 1), (115, 116, 1, .ireturn)]
def ilX5_gather : IL := [(0, 1, 1, .aload_n 2), (1, 4, 3, .invokevirtual 129), (4, 5, 1, .aload_n 0), (5, 8, 3, .getfield 28), (8, 9, 1, .iload_n 1), (9, 10, 1, .iaload), (10, 11, 1, .istore_n 3), (11, 12, 1, .iload_n 3), (12, 13, 1, .aload_n 0), (13, 16, 3, .getfield 31), (16, 17, 1, .iload_n 1), (17, 18, 1, .iaload), (18, 21, 3, .if_icmp .ge 36), (21, 22, 1, .aload_n 0), (22, 25, 3, .getfield 46), (25, 28, 3, .getfield 122), (28, 29, 1, .aload_n 0), (29, 32, 3, .getfield 10), (32, 33, 1, .iload_n 3), (33, 34, 1, .iaload), (34, 35, 1, .baload), (35, 38, 3, .ifCond .ne 13), (38, 39, 1, .aload_n 2), (39, 40, 1, .aload_n 0), (40, 43, 3, .getfield 10), (43, 44, 1, .iload_n 3), (44, 45, 1, .iaload), (45, 48, 3, .invokevirtual 132), (48, 51, 3, .iinc 3 1), (51, 54, 3, .goto (-40)), (54, 55, 1, .return_)]
def ilX7_is : IL := [(0, 1, 1, .aload_n 0), (1, 4, 3, .getfield 7), (4, 5, 1, .iload_n 1), (5, 6, 1, .iload_n 2), (6, 9, 3, .invokevirtual 13), (9, 10, 1, .ireturn)]
def ilX5_areApart : IL := [(0, 1, 1, .aload_n 0), (1, 2, 1, .iload_n 1), (2, 3, 1, .aload_n 0), (3, 6, 3, .getfield 39), (6, 9, 3, .invokevirtual 135), (9, 10, 1, .aload_n 0), (10, 11, 1, .iload_n 2), (11, 12, 1, .aload_n 0), (12, 15, 3, .getfield 43), (15, 18, 3, .invokevirtual 135), (18, 19, 1, .aload_n 0), (19, 22, 3, .getfield 39), (22, 23, 1, .aload_n 0), (23, 26, 3, .getfield 43), (26, 29, 3, .invokevirtual 139), (29, 32, 3, .ifCond .ne 7), (32, 33, 1, .iconst 1), (33, 36, 3, .goto 4), (36, 37, 1, .iconst 0), (37, 39, 2, .istore 4), (39, 40, 1, .aload_n 0), (40, 43, 3, .getfield 39), (43, 44, 1, .iconst 0), (44, 47, 3, .invokevirtual 143), (47, 49, 2, .istore 5), (49, 51, 2, .iload 5), (51, 54, 3, .ifCond .lt 72), (54, 56, 2, .iload 4), (56, 59, 3, .ifCond .eq 67), (59, 60, 1, .aload_n 0), (60, 63, 3, .getfield 43), (63, 64, 1, .iconst 0), (64, 67, 3, .invokevirtual 143), (67, 69, 2, .istore 6), (69, 71, 2, .iload 6), (71, 74, 3, .ifCond .lt 36), (74, 76, 2, .iload 4), (76, 79, 3, .ifCond .eq 31), (79, 80, 1, .aload_n 3), (80, 82, 2, .iload 5), (82, 84, 2, .iload 6), (84, 89, 5, .invokeinterface 146 3), (89, 91, 2, .istore 4), (91, 92, 1, .aload_n 0), (92, 95, 3, .getfield 43), (95, 97, 2, .iload 6), (97, 98, 1, .iconst 1), (98, 99, 1, .iadd), (99, 102, 3, .invokevirtual 143), (102, 104, 2, .istore 6), (104, 107, 3, .goto (-35)), (107, 108, 1, .aload_n 0), (108, 111, 3, .getfield 39), (111, 113, 2, .iload 5), (113, 114, 1, .iconst 1), (114, 115, 1, .iadd), (115, 118, 3, .invokevirtual 143), (118, 120, 2, .istore 5), (120, 123, 3, .goto (-71)), (123, 125, 2, .iload 4), (125, 126, 1, .ireturn)]
def ilX5_fits : IL := [(0, 1, 1, .aload_n 0), (1, 4, 3, .getfield 46), (4, 7, 3, .getfield 81), (7, 8, 1, .iload_n 1), (8, 9, 1, .iaload), (9, 10, 1, .istore_n 3), (10, 11, 1, .aload_n 0), (11, 14, 3, .getfield 46), (14, 17, 3, .getfield 126), (17, 18, 1, .iload_n 1), (18, 19, 1, .iaload), (19, 22, 3, .ifCond .ne 75), (22, 23, 1, .aload_n 0), (23, 26, 3, .getfield 46), (26, 29, 3, .getfield 78), (29, 30, 1, .iload_n 3), (30, 31, 1, .iconst 1), (31, 32, 1, .iadd), (32, 33, 1, .iaload), (33, 35, 2, .istore 4), (35, 36, 1, .aload_n 0), (36, 39, 3, .getfield 28), (39, 41, 2, .iload 4), (41, 42, 1, .aload_n 0), (42, 45, 3, .getfield 16), (45, 46, 1, .iload_n 2), (46, 47, 1, .iaload), (47, 48, 1, .iconst 1), (48, 49, 1, .iadd), (49, 50, 1, .iastore), (50, 51, 1, .aload_n 0), (51, 54, 3, .getfield 31), (54, 56, 2, .iload 4), (56, 57, 1, .aload_n 0), (57, 60, 3, .getfield 16), (60, 61, 1, .iload_n 2), (61, 62, 1, .iconst 1), (62, 63, 1, .iadd), (63, 64, 1, .iaload), (64, 65, 1, .iastore), (65, 66, 1, .aload_n 0), (66, 69, 3, .getfield 10), (69, 70, 1, .aload_n 0), (70, 73, 3, .getfield 16), (73, 74, 1, .iload_n 2), (74, 75, 1, .iaload), (75, 76, 1, .iaload), (76, 77, 1, .aload_n 0), (77, 80, 3, .getfield 46), (80, 83, 3, .getfield 78), (83, 84, 1, .iload_n 3), (84, 85, 1, .iaload), (85, 88, 3, .if_icmp .ne 7), (88, 89, 1, .iconst 1), (89, 92, 3, .goto 4), (92, 93, 1, .iconst 0), (93, 94, 1, .ireturn), (94, 95, 1, .aload_n 0), (95, 98, 3, .getfield 16), (98, 99, 1, .iload_n 2), (99, 100, 1, .iaload), (100, 102, 2, .istore 4), (102, 103, 1, .iload_n 3), (103, 105, 2, .istore 5), (105, 107, 2, .iload 5), (107, 108, 1, .aload_n 0), (108, 111, 3, .getfield 46), (111, 114, 3, .getfield 81), (114, 115, 1, .iload_n 1), (115, 116, 1, .iconst 1), (116, 117, 1, .iadd), (117, 118, 1, .iaload), (118, 121, 3, .if_icmp .ge 138), (121, 122, 1, .aload_n 0), (122, 125, 3, .getfield 46), (125, 128, 3, .getfield 78), (128, 130, 2, .iload 5), (130, 131, 1, .iaload), (131, 133, 2, .istore 6), (133, 134, 1, .aload_n 0), (134, 137, 3, .getfield 46), (137, 140, 3, .getfield 122), (140, 142, 2, .iload 6), (142, 143, 1, .baload), (143, 146, 3, .ifCond .eq 7), (146, 147, 1, .iconst (-1)), (147, 150, 3, .goto 10), (150, 151, 1, .aload_n 0), (151, 154, 3, .getfield 28), (154, 156, 2, .iload 6), (156, 157, 1, .iaload), (157, 159, 2, .istore 7), (159, 160, 1, .aload_n 0), (160, 163, 3, .getfield 46), (163, 166, 3, .getfield 122), (166, 168, 2, .iload 6), (168, 169, 1, .baload), (169, 172, 3, .ifCond .eq 7), (172, 173, 1, .iconst 0), (173, 176, 3, .goto 10), (176, 177, 1, .aload_n 0), (177, 180, 3, .getfield 31), (180, 182, 2, .iload 6), (182, 183, 1, .iaload), (183, 185, 2, .istore 8), (185, 187, 2, .iload 7), (187, 189, 2, .iload 8), (189, 192, 3, .if_icmp .ne 6), (192, 195, 3, .goto 58), (195, 197, 2, .iload 4), (197, 198, 1, .aload_n 0), (198, 201, 3, .getfield 16), (201, 202, 1, .iload_n 2), (202, 203, 1, .iconst 1), (203, 204, 1, .iadd), (204, 205, 1, .iaload), (205, 208, 3, .if_icmp .eq 30), (208, 209, 1, .aload_n 0), (209, 212, 3, .getfield 10), (212, 214, 2, .iload 4), (214, 215, 1, .iaload), (215, 217, 2, .iload 7), (217, 220, 3, .ifCond .ge 8), (220, 222, 2, .iload 6), (222, 225, 3, .goto 10), (225, 226, 1, .aload_n 0), (226, 229, 3, .getfield 10), (229, 231, 2, .iload 7), (231, 232, 1, .iaload), (232, 235, 3, .if_icmp .eq 5), (235, 236, 1, .iconst 0), (236, 237, 1, .ireturn), (237, 240, 3, .iinc 4 1), (240, 243, 3, .iinc 7 1), (243, 245, 2, .iload 7), (245, 247, 2, .iload 8), (247, 250, 3, .if_icmp .lt (-62)), (250, 253, 3, .iinc 5 1), (253, 256, 3, .goto (-148)), (256, 258, 2, .iload 4), (258, 259, 1, .aload_n 0), (259, 262, 3, .getfield 16), (262, 263, 1, .iload_n 2), (263, 264, 1, .iconst 1), (264, 265, 1, .iadd), (265, 266, 1, .iaload), (266, 269, 3, .if_icmp .ne 7), (269, 270, 1, .iconst 1), (270, 273, 3, .goto 4), (273, 274, 1, .iconst 0), (274, 275, 1, .ireturn)]
def ilX5_push : IL := [(0, 1, 1, .aload_n 1), (1, 2, 1, .iload_n 2), (2, 3, 1, .aload_n 0), (3, 6, 3, .getfield 10), (6, 7, 1, .aload_n 0), (7, 10, 3, .getfield 16), (10, 11, 1, .aload_n 0), (11, 14, 3, .getfield 50), (14, 15, 1, .iaload), (15, 16, 1, .iload_n 3), (16, 17, 1, .iload_n 2), (17, 18, 1, .isub), (18, 21, 3, .invokestatic 57), (21, 22, 1, .aload_n 0), (22, 25, 3, .getfield 16), (25, 26, 1, .aload_n 0), (26, 29, 3, .getfield 50), (29, 30, 1, .iconst 1), (30, 31, 1, .iadd), (31, 32, 1, .aload_n 0), (32, 35, 3, .getfield 16), (35, 36, 1, .aload_n 0), (36, 39, 3, .getfield 50), (39, 40, 1, .iaload), (40, 41, 1, .iload_n 3), (41, 42, 1, .iadd), (42, 43, 1, .iload_n 2), (43, 44, 1, .isub), (44, 45, 1, .iastore), (45, 46, 1, .aload_n 0), (46, 47, 1, .dup), (47, 50, 3, .getfield 50), (50, 51, 1, .iconst 1), (51, 52, 1, .iadd), (52, 55, 3, .putfield 50), (55, 56, 1, .return_)]
def ilX5_apply : IL := [(0, 1, 1, .aload_n 0), (1, 4, 3, .getfield 46), (4, 5, 1, .iload_n 1), (5, 8, 3, .invokevirtual 92), (8, 9, 1, .istore_n 3), (9, 10, 1, .aload_n 0), (10, 13, 3, .getfield 50), (13, 14, 1, .iload_n 3), (14, 17, 3, .if_icmp .ge 6), (17, 19, 2, .bipush 15), (19, 20, 1, .ireturn), (20, 21, 1, .iconst 0), (21, 23, 2, .istore 4), (23, 25, 2, .iload 4), (25, 26, 1, .iload_n 3), (26, 29, 3, .if_icmp .ge 38), (29, 30, 1, .aload_n 0), (30, 31, 1, .aload_n 0), (31, 34, 3, .getfield 46), (34, 35, 1, .iload_n 1), (35, 37, 2, .iload 4), (37, 40, 3, .invokevirtual 95), (40, 41, 1, .aload_n 0), (41, 44, 3, .getfield 50), (44, 45, 1, .iload_n 3), (45, 46, 1, .isub), (46, 48, 2, .iload 4), (48, 49, 1, .iadd), (49, 52, 3, .invokevirtual 99), (52, 55, 3, .ifCond .ne 6), (55, 57, 2, .bipush 16), (57, 58, 1, .ireturn), (58, 61, 3, .iinc 4 1), (61, 64, 3, .goto (-38)), (64, 65, 1, .aload_n 0), (65, 68, 3, .getfield 46), (68, 71, 3, .getfield 103), (71, 72, 1, .iload_n 1), (72, 73, 1, .iaload), (73, 75, 2, .istore 4), (75, 77, 2, .iload 4), (77, 78, 1, .aload_n 0), (78, 81, 3, .getfield 46), (81, 84, 3, .getfield 103), (84, 85, 1, .iload_n 1), (85, 86, 1, .iconst 1), (86, 87, 1, .iadd), (87, 88, 1, .iaload), (88, 91, 3, .if_icmp .ge 40), (91, 92, 1, .aload_n 0), (92, 93, 1, .aload_n 0), (93, 96, 3, .getfield 46), (96, 99, 3, .getfield 106), (99, 101, 2, .iload 4), (101, 102, 1, .iaload), (102, 103, 1, .aload_n 0), (103, 106, 3, .getfield 46), (106, 109, 3, .getfield 109), (109, 111, 2, .iload 4), (111, 112, 1, .iaload), (112, 113, 1, .aload_n 2), (113, 116, 3, .invokevirtual 112), (116, 119, 3, .ifCond .ne 6), (119, 121, 2, .bipush 17), (121, 122, 1, .ireturn), (122, 125, 3, .iinc 4 1), (125, 128, 3, .goto (-50)), (128, 129, 1, .aload_n 0), (129, 130, 1, .iconst 0), (130, 133, 3, .putfield 116), (133, 134, 1, .aload_n 0), (134, 137, 3, .getfield 46), (137, 140, 3, .getfield 81), (140, 141, 1, .iload_n 1), (141, 142, 1, .iaload), (142, 144, 2, .istore 4), (144, 146, 2, .iload 4), (146, 147, 1, .aload_n 0), (147, 150, 3, .getfield 46), (150, 153, 3, .getfield 81), (153, 154, 1, .iload_n 1), (154, 155, 1, .iconst 1), (155, 156, 1, .iadd), (156, 157, 1, .iaload), (157, 160, 3, .if_icmp .ge 28), (160, 161, 1, .aload_n 0), (161, 162, 1, .aload_n 0), (162, 165, 3, .getfield 46), (165, 168, 3, .getfield 78), (168, 170, 2, .iload 4), (170, 171, 1, .iaload), (171, 174, 3, .invokevirtual 119), (174, 177, 3, .ifCond .ne 5), (177, 178, 1, .iconst 5), (178, 179, 1, .ireturn), (179, 182, 3, .iinc 4 1), (182, 185, 3, .goto (-38)), (185, 186, 1, .aload_n 0), (186, 187, 1, .dup), (187, 190, 3, .getfield 50), (190, 191, 1, .iload_n 3), (191, 192, 1, .isub), (192, 195, 3, .putfield 50), (195, 196, 1, .aload_n 0), (196, 197, 1, .aload_n 0), (197, 200, 3, .getfield 25), (200, 201, 1, .iconst 0), (201, 202, 1, .aload_n 0), (202, 205, 3, .getfield 116), (205, 208, 3, .invokevirtual 64), (208, 209, 1, .iconst 0), (209, 210, 1, .ireturn)]
def ilX9_is : IL := [(0, 1, 1, .iconst 1), (1, 2, 1, .ireturn)]
def ilX5_clear : IL := [(0, 1, 1, .aload_n 0), (1, 2, 1, .iconst 0), (2, 5, 3, .putfield 50), (5, 6, 1, .aload_n 0), (6, 9, 3, .getfield 16), (9, 10, 1, .iconst 0), (10, 11, 1, .iconst 0), (11, 12, 1, .iastore), (12, 13, 1, .aload_n 0), (13, 14, 1, .iconst 0), (14, 17, 3, .putfield 54), (17, 18, 1, .aload_n 0), (18, 21, 3, .getfield 22), (21, 22, 1, .iconst 0), (22, 23, 1, .iconst 0), (23, 24, 1, .iastore), (24, 25, 1, .return_)]
def ilX5_length : IL := [(0, 1, 1, .aload_n 0), (1, 4, 3, .getfield 16), (4, 5, 1, .iload_n 1), (5, 6, 1, .iconst 1), (6, 7, 1, .iadd), (7, 8, 1, .iaload), (8, 9, 1, .aload_n 0), (9, 12, 3, .getfield 16), (12, 13, 1, .iload_n 1), (13, 14, 1, .iaload), (14, 15, 1, .isub), (15, 16, 1, .ireturn)]
def ilX5_isStatement : IL := [(0, 1, 1, .aload_n 0), (1, 2, 1, .iconst 0), (2, 5, 3, .invokevirtual 88), (5, 6, 1, .aload_n 0), (6, 9, 3, .getfield 46), (9, 10, 1, .iload_n 1), (10, 13, 3, .invokevirtual 151), (13, 16, 3, .if_icmp .ne 7), (16, 17, 1, .iconst 1), (17, 20, 3, .goto 4), (20, 21, 1, .iconst 0), (21, 22, 1, .istore_n 2), (22, 23, 1, .iconst 0), (23, 24, 1, .istore_n 3), (24, 25, 1, .iload_n 3), (25, 26, 1, .aload_n 0), (26, 29, 3, .getfield 46), (29, 30, 1, .iload_n 1), (30, 33, 3, .invokevirtual 151), (33, 36, 3, .if_icmp .ge 47), (36, 37, 1, .iload_n 2), (37, 40, 3, .ifCond .eq 43), (40, 41, 1, .aload_n 0), (41, 44, 3, .getfield 10), (44, 45, 1, .iload_n 3), (45, 46, 1, .iaload), (46, 47, 1, .aload_n 0), (47, 50, 3, .getfield 46), (50, 53, 3, .getfield 78), (53, 54, 1, .aload_n 0), (54, 57, 3, .getfield 46), (57, 60, 3, .getfield 81), (60, 61, 1, .iload_n 1), (61, 62, 1, .iaload), (62, 63, 1, .iload_n 3), (63, 64, 1, .iadd), (64, 65, 1, .iaload), (65, 68, 3, .if_icmp .ne 7), (68, 69, 1, .iconst 1), (69, 72, 3, .goto 4), (72, 73, 1, .iconst 0), (73, 74, 1, .istore_n 2), (74, 77, 3, .iinc 3 1), (77, 80, 3, .goto (-53)), (80, 81, 1, .iload_n 2), (81, 82, 1, .ireturn)]
def ilX5_isTooMuch : IL := [(0, 1, 1, .aload_n 0), (1, 4, 3, .getfield 50), (4, 7, 3, .sipush 200), (7, 10, 3, .if_icmp .gt 27), (10, 11, 1, .aload_n 0), (11, 14, 3, .getfield 16), (14, 15, 1, .aload_n 0), (15, 18, 3, .getfield 50), (18, 19, 1, .iaload), (19, 20, 1, .aload_n 0), (20, 23, 3, .getfield 22), (23, 24, 1, .aload_n 0), (24, 27, 3, .getfield 54), (27, 28, 1, .iaload), (28, 29, 1, .iadd), (29, 31, 2, .ldc 63), (31, 34, 3, .if_icmp .le 7), (34, 35, 1, .iconst 1), (35, 38, 3, .goto 4), (38, 39, 1, .iconst 0), (39, 40, 1, .ireturn)]
def kX3_endBeginning (n : Nat) (a1 : Int) (N : NW) : OR :=
  ck (0 ≤ a1 ∧ a1 < 1000) (ck (0 ≤ a1 ∧ a1 < 1000) (lt (up2 N 523 a1 (w32 ((N 523 a1) - 1))) (fun N3 => ck (0 ≤ a1 ∧ a1 < 1000) (lt (up2 N3 516 8 (w32 ((N3 516 8) - (if (N3 523 a1) = 0 then (1 : Int) else 0)))) (fun N5 => some (0, N5))))))
def kX4_pairKey (n : Nat) (a0 : Int) (a1 : Int) (N : NW) : OR :=
  some (w32 ((w32 (1024 * (iMin a0 a1))) + (iMax a0 a1)), N)
def kX4_addApart (n : Nat) (a1 : Int) (a2 : Int) (N : NW) : OR :=
  bn (kX4_pairKey n a1 a2 N) (fun r1 N2 => ck (0 ≤ (iShr r1 6) ∧ (iShr r1 6) < 16384) (ck (0 ≤ (iShr r1 6) ∧ (iShr r1 6) < 16384) (lt (up2 N2 545 (iShr r1 6) (lOr (N2 545 (iShr r1 6)) (lShl 1 (iAnd r1 63)))) (fun N6 => ck (0 ≤ (N6 536 7) ∧ (N6 536 7) < 1000) (lt (up2 N6 544 (N6 536 7) r1) (fun N8 => lt (up2 N8 536 7 (w32 ((N8 536 7) + 1))) (fun N9 => some (0, N9))))))))
def kX4_isApart (n : Nat) (a1 : Int) (a2 : Int) (N : NW) : OR :=
  bn (kX4_pairKey n a1 a2 N) (fun r1 N2 => ck (0 ≤ (iShr r1 6) ∧ (iShr r1 6) < 16384) (some (if (lCmp (lAnd (lShr (N2 545 (iShr r1 6)) (iAnd r1 63)) 1) 1) = 0 then (1 : Int) else 0, N2)))
def kX4_isStep (n : Nat) (a1 : Int) (N : NW) : OR :=
  bn (kX3_isAssertion n a1 N) (fun r1 N2 => lt (fun (N4 : NW) => (some (1, N4) : OR)) (fun (J5 : NW → OR) => if r1 = 0 then (ck (0 ≤ a1 ∧ a1 < 1500) (some (if (N2 539 a1) = 0 then (0 : Int) else 1, N2))) else (J5 N2)))
def kX5_add (n : Nat) (a1 : Int) (N : NW) : OR :=
  ck (0 ≤ a1 ∧ a1 < 1000) (lt (fun (s2 : Int) (N3 : NW) => (ck (0 ≤ a1 ∧ a1 < 1000) (lt (fun (s6 : Int) (N7 : NW) => (if (w32 ((N7 547 8) + s6)) ≤ 1000 then (ck (0 ≤ a1 ∧ a1 < 1000) (lt (fun (N10 : NW) => (lt (up2 N10 547 8 (w32 ((N10 547 8) + s6))) (fun N12 => some (1, N12)) : OR)) (fun (J11 : NW → OR) => if (N7 521 a1) = 0 then (ck (0 ≤ s2 ∧ 0 ≤ (N7 547 8) ∧ 0 ≤ s6 ∧ s2 + s6 ≤ 41100 ∧ (N7 547 8) + s6 ≤ 1000) (lt (cpN N7 548 552 s2 (N7 547 8) s6) (fun N14 => J11 N14))) else (ck (0 ≤ (N7 547 8) ∧ (N7 547 8) < 1000) (lt (up2 N7 552 (N7 547 8) a1) (fun N16 => J11 N16)))))) else (some (0, N7)) : OR)) (fun (J8 : Int → NW → OR) => if (N3 521 a1) = 0 then (ck (0 ≤ a1 ∧ a1 < 1000) (J8 (w32 ((N3 554 a1) - s2)) N3)) else (J8 1 N3))) : OR)) (fun (J4 : Int → NW → OR) => if (N 521 a1) = 0 then (ck (0 ≤ a1 ∧ a1 < 1000) (J4 (N 553 a1) N)) else (J4 0 N)))
def kX5_gather_555_l11 (v1 : Int) (K : NW → OR) : Nat → Int → NW → OR
  | 0, _, _ => none
  | n + 1, v3, N => ck (0 ≤ v1 ∧ v1 < 1000) (if (N 554 v1) ≤ v3 then (K N) else (ck (0 ≤ v3 ∧ v3 < 41100) (ck (0 ≤ (N 548 v3) ∧ (N 548 v3) < 1000) (lt (fun (N8 : NW) => (kX5_gather_555_l11 v1 K n (w32 (v3 + 1)) N8 : OR)) (fun (J9 : NW → OR) => if (N 521 (N 548 v3)) = 0 then (ck (0 ≤ v3 ∧ v3 < 41100) (bn (kJ10_set_555 n (N 548 v3) N) (fun r11 N12 => J9 N12))) else (J9 N))))))
def kX5_gather_555 (n : Nat) (a1 : Int) (N : NW) : OR :=
  bn (kJ10_clear_555 n N) (fun r1 N2 => ck (0 ≤ a1 ∧ a1 < 1000) (kX5_gather_555_l11 a1 (fun (N16 : NW) => (some (0, N16) : OR)) n (N2 553 a1) N2))
def kX5_gather_557_l11 (v1 : Int) (K : NW → OR) : Nat → Int → NW → OR
  | 0, _, _ => none
  | n + 1, v3, N => ck (0 ≤ v1 ∧ v1 < 1000) (if (N 554 v1) ≤ v3 then (K N) else (ck (0 ≤ v3 ∧ v3 < 41100) (ck (0 ≤ (N 548 v3) ∧ (N 548 v3) < 1000) (lt (fun (N8 : NW) => (kX5_gather_557_l11 v1 K n (w32 (v3 + 1)) N8 : OR)) (fun (J9 : NW → OR) => if (N 521 (N 548 v3)) = 0 then (ck (0 ≤ v3 ∧ v3 < 41100) (bn (kJ10_set_557 n (N 548 v3) N) (fun r11 N12 => J9 N12))) else (J9 N))))))
def kX5_gather_557 (n : Nat) (a1 : Int) (N : NW) : OR :=
  bn (kJ10_clear_557 n N) (fun r1 N2 => ck (0 ≤ a1 ∧ a1 < 1000) (kX5_gather_557_l11 a1 (fun (N16 : NW) => (some (0, N16) : OR)) n (N2 553 a1) N2))
def kX7_is (n : Nat) (a1 : Int) (a2 : Int) (N : NW) : OR :=
  bn (kX4_isApart n a1 a2 N) (fun r1 N2 => ck ((0 : Int) ≤ r1 ∧ r1 < 2) (some (r1, N2)))
def kX5_areApart_565_l69 (v5 : Int) (K : Int → NW → OR) : Nat → Int → Int → NW → OR
  | 0, _, _, _ => none
  | n + 1, v4, v6, N => if v6 < 0 then (K v4 N) else (if v4 = 0 then (K v4 N) else (bn (kX7_is n v5 v6 N) (fun r17 N18 => bn (kJ10_nextSetBit_557 n (w32 (v6 + 1)) N18) (fun r20 N21 => kX5_areApart_565_l69 v5 K n r17 r20 N21))))
def kX5_areApart_565_l49 (K : Int → NW → OR) : Nat → Int → Int → NW → OR
  | 0, _, _, _ => none
  | n + 1, v4, v5, N => if v5 < 0 then (K v4 N) else (if v4 = 0 then (K v4 N) else (bn (kJ10_nextSetBit_557 n 0 N) (fun r14 N15 => kX5_areApart_565_l69 v5 (fun (x4_25 : Int) (N26 : NW) => (bn (kJ10_nextSetBit_555 n (w32 (v5 + 1)) N26) (fun r27 N28 => kX5_areApart_565_l49 K n x4_25 r27 N28) : OR)) n v4 r14 N15)))
def kX5_areApart_565 (n : Nat) (a1 : Int) (a2 : Int) (N : NW) : OR :=
  bn (kX5_gather_555 n a1 N) (fun r1 N2 => bn (kX5_gather_557 n a2 N2) (fun r4 N5 => bn (kJ10_intersects_555_557 n N5) (fun r7 N8 => lt (if r7 = 0 then (1 : Int) else 0) (fun x4_10 => bn (kJ10_nextSetBit_555 n 0 N8) (fun r11 N12 => kX5_areApart_565_l49 (fun (x4_32 : Int) (N33 : NW) => (ck ((0 : Int) ≤ x4_32 ∧ x4_32 < 2) (some (x4_32, N33)) : OR)) n x4_10 r11 N12)))))
def kX5_fits_l185 (v1 : Int) (v2 : Int) (v5 : Int) (v6 : Int) (v8 : Int) (K : Int → NW → OR) : Nat → Int → Int → NW → OR
  | 0, _, _, _ => none
  | n + 1, v4, v7, N => if v7 = v8 then (K v4 N) else (ck (0 ≤ (w32 (v2 + 1)) ∧ (w32 (v2 + 1)) < 202) (if v4 = (N 549 (w32 (v2 + 1))) then (some (0, N)) else (ck (0 ≤ v4 ∧ v4 < 41100) (lt (fun (s16 : Int) (N17 : NW) => (if (N 548 v4) = s16 then (if (w32 (v7 + 1)) < v8 then (kX5_fits_l185 v1 v2 v5 v6 v8 K n (w32 (v4 + 1)) (w32 (v7 + 1)) N17) else (K (w32 (v4 + 1)) N17)) else (some (0, N17)) : OR)) (fun (J18 : Int → NW → OR) => if 0 ≤ v7 then (ck (0 ≤ v7 ∧ v7 < 41100) (J18 (N 548 v7) N)) else (J18 v6 N))))))
def kX5_fits_l105 (v1 : Int) (v2 : Int) (K : Int → NW → OR) : Nat → Int → Int → NW → OR
  | 0, _, _, _ => none
  | n + 1, v4, v5, N => ck (0 ≤ (w32 (v1 + 1)) ∧ (w32 (v1 + 1)) < 1501) (if (N 526 (w32 (v1 + 1))) ≤ v5 then (K v4 N) else (ck (0 ≤ v5 ∧ v5 < 30000) (ck (0 ≤ (N 527 v5) ∧ (N 527 v5) < 1000) (lt (fun (s7 : Int) (N8 : NW) => (ck (0 ≤ (N 527 v5) ∧ (N 527 v5) < 1000) (lt (fun (s11 : Int) (N12 : NW) => (kX5_fits_l185 v1 v2 v5 (N 527 v5) s11 (fun (x4_25 : Int) (N26 : NW) => (kX5_fits_l105 v1 v2 K n x4_25 (w32 (v5 + 1)) N26 : OR)) n v4 s7 N12 : OR)) (fun (J13 : Int → NW → OR) => if (N8 521 (N 527 v5)) = 0 then (ck (0 ≤ (N 527 v5) ∧ (N 527 v5) < 1000) (J13 (N8 554 (N 527 v5)) N8)) else (J13 0 N8))) : OR)) (fun (J9 : Int → NW → OR) => if (N 521 (N 527 v5)) = 0 then (ck (0 ≤ (N 527 v5) ∧ (N 527 v5) < 1000) (J9 (N 553 (N 527 v5)) N)) else (J9 (-1) N))))))
def kX5_fits (n : Nat) (a1 : Int) (a2 : Int) (N : NW) : OR :=
  ck (0 ≤ a1 ∧ a1 < 1501) (ck (0 ≤ a1 ∧ a1 < 1500) (if (N 524 a1) = 0 then (ck (0 ≤ (w32 ((N 526 a1) + 1)) ∧ (w32 ((N 526 a1) + 1)) < 30000) (lt (N 527 (w32 ((N 526 a1) + 1))) (fun x4_38 => ck (0 ≤ a2 ∧ a2 < 202) (ck (0 ≤ x4_38 ∧ x4_38 < 1000) (lt (up2 N 553 x4_38 (w32 ((N 549 a2) + 1))) (fun N41 => ck (0 ≤ (w32 (a2 + 1)) ∧ (w32 (a2 + 1)) < 202) (ck (0 ≤ x4_38 ∧ x4_38 < 1000) (lt (up2 N41 554 x4_38 (N41 549 (w32 (a2 + 1)))) (fun N44 => ck (0 ≤ a2 ∧ a2 < 202) (ck (0 ≤ (N44 549 a2) ∧ (N44 549 a2) < 41100) (ck (0 ≤ (N 526 a1) ∧ (N 526 a1) < 30000) (some (if (N44 548 (N44 549 a2)) = (N44 527 (N 526 a1)) then (1 : Int) else 0, N44))))))))))))) else (ck (0 ≤ a2 ∧ a2 < 202) (kX5_fits_l105 a1 a2 (fun (x4_32 : Int) (N33 : NW) => (ck (0 ≤ (w32 (a2 + 1)) ∧ (w32 (a2 + 1)) < 202) (some (if x4_32 = (N33 549 (w32 (a2 + 1))) then (1 : Int) else 0, N33)) : OR)) n (N 549 a2) (N 526 a1) N))))
def kX5_push_552 (n : Nat) (a2 : Int) (a3 : Int) (N : NW) : OR :=
  ck (0 ≤ (N 547 3) ∧ (N 547 3) < 202) (ck (0 ≤ a2 ∧ 0 ≤ (N 549 (N 547 3)) ∧ 0 ≤ (w32 (a3 - a2)) ∧ a2 + (w32 (a3 - a2)) ≤ 1000 ∧ (N 549 (N 547 3)) + (w32 (a3 - a2)) ≤ 41100) (lt (cpN N 552 548 a2 (N 549 (N 547 3)) (w32 (a3 - a2))) (fun N3 => ck (0 ≤ (N3 547 3) ∧ (N3 547 3) < 202) (ck (0 ≤ (w32 ((N3 547 3) + 1)) ∧ (w32 ((N3 547 3) + 1)) < 202) (lt (up2 N3 549 (w32 ((N3 547 3) + 1)) (w32 ((w32 ((N3 549 (N3 547 3)) + a3)) - a2))) (fun N6 => lt (up2 N6 547 3 (w32 ((N6 547 3) + 1))) (fun N7 => some (0, N7))))))))
def kX5_apply_565_l23 (v1 : Int) (v3 : Int) (K : NW → OR) : Nat → Int → NW → OR
  | 0, _, _ => none
  | n + 1, v4, N => if v3 ≤ v4 then (K N) else (bn (kX3_hypothesis n v1 v4 N) (fun r4 N5 => bn (kX5_fits n r4 (w32 ((w32 ((N5 547 3) - v3)) + v4)) N5) (fun r7 N8 => if r7 = 0 then (some (16, N8)) else (kX5_apply_565_l23 v1 v3 K n (w32 (v4 + 1)) N8))))
def kX5_apply_565_l75 (v1 : Int) (v3 : Int) (K : NW → OR) : Nat → Int → NW → OR
  | 0, _, _ => none
  | n + 1, v4, N => ck (0 ≤ (w32 (v1 + 1)) ∧ (w32 (v1 + 1)) < 1501) (if (N 530 (w32 (v1 + 1))) ≤ v4 then (K N) else (ck (0 ≤ v4 ∧ v4 < 20000) (ck (0 ≤ v4 ∧ v4 < 20000) (bn (kX5_areApart_565 n (N 531 v4) (N 532 v4) N) (fun r17 N18 => if r17 = 0 then (some (17, N18)) else (kX5_apply_565_l75 v1 v3 K n (w32 (v4 + 1)) N18))))))
def kX5_apply_565_l144 (v1 : Int) (v3 : Int) (K : NW → OR) : Nat → Int → NW → OR
  | 0, _, _ => none
  | n + 1, v4, N => ck (0 ≤ (w32 (v1 + 1)) ∧ (w32 (v1 + 1)) < 1501) (if (N 526 (w32 (v1 + 1))) ≤ v4 then (K N) else (ck (0 ≤ v4 ∧ v4 < 30000) (bn (kX5_add n (N 527 v4) N) (fun r27 N28 => if r27 = 0 then (some (5, N28)) else (kX5_apply_565_l144 v1 v3 K n (w32 (v4 + 1)) N28)))))
def kX5_apply_565 (n : Nat) (a1 : Int) (N : NW) : OR :=
  bn (kX3_mandatory n a1 N) (fun r1 N2 => if r1 ≤ (N2 547 3) then (kX5_apply_565_l23 a1 r1 (fun (N12 : NW) => (ck (0 ≤ a1 ∧ a1 < 1501) (kX5_apply_565_l75 a1 r1 (fun (N22 : NW) => (lt (up2 N22 547 8 0) (fun N23 => ck (0 ≤ a1 ∧ a1 < 1501) (kX5_apply_565_l144 a1 r1 (fun (N32 : NW) => (lt (up2 N32 547 3 (w32 ((N32 547 3) - r1))) (fun N33 => bn (kX5_push_552 n 0 (N33 547 8) N33) (fun r34 N35 => some (0, N35))) : OR)) n (N23 526 a1) N23)) : OR)) n (N12 530 a1) N12) : OR)) n 0 N2) else (some (15, N2)))
def kX9_is (n : Nat) (a1 : Int) (a2 : Int) (N : NW) : OR :=
  some (1, N)
def kX5_areApart_572_l69 (v5 : Int) (K : Int → NW → OR) : Nat → Int → Int → NW → OR
  | 0, _, _, _ => none
  | n + 1, v4, v6, N => if v6 < 0 then (K v4 N) else (if v4 = 0 then (K v4 N) else (bn (kX9_is n v5 v6 N) (fun r17 N18 => bn (kJ10_nextSetBit_557 n (w32 (v6 + 1)) N18) (fun r20 N21 => kX5_areApart_572_l69 v5 K n r17 r20 N21))))
def kX5_areApart_572_l49 (K : Int → NW → OR) : Nat → Int → Int → NW → OR
  | 0, _, _, _ => none
  | n + 1, v4, v5, N => if v5 < 0 then (K v4 N) else (if v4 = 0 then (K v4 N) else (bn (kJ10_nextSetBit_557 n 0 N) (fun r14 N15 => kX5_areApart_572_l69 v5 (fun (x4_25 : Int) (N26 : NW) => (bn (kJ10_nextSetBit_555 n (w32 (v5 + 1)) N26) (fun r27 N28 => kX5_areApart_572_l49 K n x4_25 r27 N28) : OR)) n v4 r14 N15)))
def kX5_areApart_572 (n : Nat) (a1 : Int) (a2 : Int) (N : NW) : OR :=
  bn (kX5_gather_555 n a1 N) (fun r1 N2 => bn (kX5_gather_557 n a2 N2) (fun r4 N5 => bn (kJ10_intersects_555_557 n N5) (fun r7 N8 => lt (if r7 = 0 then (1 : Int) else 0) (fun x4_10 => bn (kJ10_nextSetBit_555 n 0 N8) (fun r11 N12 => kX5_areApart_572_l49 (fun (x4_32 : Int) (N33 : NW) => (ck ((0 : Int) ≤ x4_32 ∧ x4_32 < 2) (some (x4_32, N33)) : OR)) n x4_10 r11 N12)))))
def kX5_apply_572_l23 (v1 : Int) (v3 : Int) (K : NW → OR) : Nat → Int → NW → OR
  | 0, _, _ => none
  | n + 1, v4, N => if v3 ≤ v4 then (K N) else (bn (kX3_hypothesis n v1 v4 N) (fun r4 N5 => bn (kX5_fits n r4 (w32 ((w32 ((N5 547 3) - v3)) + v4)) N5) (fun r7 N8 => if r7 = 0 then (some (16, N8)) else (kX5_apply_572_l23 v1 v3 K n (w32 (v4 + 1)) N8))))
def kX5_apply_572_l75 (v1 : Int) (v3 : Int) (K : NW → OR) : Nat → Int → NW → OR
  | 0, _, _ => none
  | n + 1, v4, N => ck (0 ≤ (w32 (v1 + 1)) ∧ (w32 (v1 + 1)) < 1501) (if (N 530 (w32 (v1 + 1))) ≤ v4 then (K N) else (ck (0 ≤ v4 ∧ v4 < 20000) (ck (0 ≤ v4 ∧ v4 < 20000) (bn (kX5_areApart_572 n (N 531 v4) (N 532 v4) N) (fun r17 N18 => if r17 = 0 then (some (17, N18)) else (kX5_apply_572_l75 v1 v3 K n (w32 (v4 + 1)) N18))))))
def kX5_apply_572_l144 (v1 : Int) (v3 : Int) (K : NW → OR) : Nat → Int → NW → OR
  | 0, _, _ => none
  | n + 1, v4, N => ck (0 ≤ (w32 (v1 + 1)) ∧ (w32 (v1 + 1)) < 1501) (if (N 526 (w32 (v1 + 1))) ≤ v4 then (K N) else (ck (0 ≤ v4 ∧ v4 < 30000) (bn (kX5_add n (N 527 v4) N) (fun r27 N28 => if r27 = 0 then (some (5, N28)) else (kX5_apply_572_l144 v1 v3 K n (w32 (v4 + 1)) N28)))))
def kX5_apply_572 (n : Nat) (a1 : Int) (N : NW) : OR :=
  bn (kX3_mandatory n a1 N) (fun r1 N2 => if r1 ≤ (N2 547 3) then (kX5_apply_572_l23 a1 r1 (fun (N12 : NW) => (ck (0 ≤ a1 ∧ a1 < 1501) (kX5_apply_572_l75 a1 r1 (fun (N22 : NW) => (lt (up2 N22 547 8 0) (fun N23 => ck (0 ≤ a1 ∧ a1 < 1501) (kX5_apply_572_l144 a1 r1 (fun (N32 : NW) => (lt (up2 N32 547 3 (w32 ((N32 547 3) - r1))) (fun N33 => bn (kX5_push_552 n 0 (N33 547 8) N33) (fun r34 N35 => some (0, N35))) : OR)) n (N23 526 a1) N23)) : OR)) n (N12 530 a1) N12) : OR)) n 0 N2) else (some (15, N2)))
def kX5_clear (n : Nat) (N : NW) : OR :=
  lt (up2 N 547 3 0) (fun N1 => ck ((0 : Int) ≤ 0 ∧ (0 : Int) < 202) (lt (up2 N1 549 0 0) (fun N3 => lt (up2 N3 547 6 0) (fun N4 => ck ((0 : Int) ≤ 0 ∧ (0 : Int) < 302) (lt (up2 N4 551 0 0) (fun N6 => some (0, N6)))))))
def kX5_length (n : Nat) (a1 : Int) (N : NW) : OR :=
  ck (0 ≤ (w32 (a1 + 1)) ∧ (w32 (a1 + 1)) < 202) (ck (0 ≤ a1 ∧ a1 < 202) (some (w32 ((N 549 (w32 (a1 + 1))) - (N 549 a1)), N)))
def kX5_isStatement_l24 (v1 : Int) (K : Int → NW → OR) : Nat → Int → Int → NW → OR
  | 0, _, _, _ => none
  | n + 1, v2, v3, N => bn (kX3_length n v1 N) (fun r8 N9 => if r8 ≤ v3 then (K v2 N9) else (if v2 = 0 then (K v2 N9) else (ck (0 ≤ v3 ∧ v3 < 41100) (ck (0 ≤ v1 ∧ v1 < 1501) (ck (0 ≤ (w32 ((N9 526 v1) + v3)) ∧ (w32 ((N9 526 v1) + v3)) < 30000) (lt (if (N9 548 v3) = (N9 527 (w32 ((N9 526 v1) + v3))) then (1 : Int) else 0) (fun x2_14 => kX5_isStatement_l24 v1 K n x2_14 (w32 (v3 + 1)) N9)))))))
def kX5_isStatement (n : Nat) (a1 : Int) (N : NW) : OR :=
  bn (kX5_length n 0 N) (fun r1 N2 => bn (kX3_length n a1 N2) (fun r4 N5 => lt (if r1 = r4 then (1 : Int) else 0) (fun x2_7 => kX5_isStatement_l24 a1 (fun (x2_19 : Int) (N20 : NW) => (ck ((0 : Int) ≤ x2_19 ∧ x2_19 < 2) (some (x2_19, N20)) : OR)) n x2_7 0 N5)))
def kX5_isTooMuch (n : Nat) (N : NW) : OR :=
  lt (fun (N1 : NW) => (some (1, N1) : OR)) (fun (J2 : NW → OR) => if 200 < (N 547 3) then (J2 N) else (ck (0 ≤ (N 547 3) ∧ (N 547 3) < 202) (ck (0 ≤ (N 547 6) ∧ (N 547 6) < 302) (some (if (w32 ((N 549 (N 547 3)) + (N 551 (N 547 6)))) ≤ 40000 then (0 : Int) else 1, N)))))
end

section
set_option maxRecDepth 100000
def ilX5_step : IL := [(0, 1, 1, .iload_n 1), (1, 4, 3, .ifCond .ge 39), (4, 5, 1, .aload_n 0), (5, 6, 1, .aload_n 0), (6, 9, 3, .getfield 19), (9, 10, 1, .aload_n 0), (10, 13, 3, .getfield 22), (13, 14, 1, .iconst (-1)), (14, 15, 1, .iload_n 1), (15, 16, 1, .isub), (16, 17, 1, .iaload), (17, 18, 1, .aload_n 0), (18, 21, 3, .getfield 22), (21, 22, 1, .iload_n 1), (22, 23, 1, .ineg), (23, 24, 1, .iaload), (24, 27, 3, .invokevirtual 64), (27, 28, 1, .aload_n 0), (28, 31, 3, .invokevirtual 68), (31, 34, 3, .ifCond .eq 7), (34, 35, 1, .iconst 5), (35, 38, 3, .goto 4), (38, 39, 1, .iconst 0), (39, 40, 1, .ireturn), (40, 41, 1, .iload_n 1), (41, 42, 1, .iconst 1), (42, 43, 1, .ishr), (43, 44, 1, .istore_n 3), (44, 45, 1, .aload_n 0), (45, 48, 3, .getfield 46), (48, 49, 1, .iload_n 3), (49, 52, 3, .invokevirtual 72), (52, 55, 3, .ifCond .ne 37), (55, 56, 1, .aload_n 0), (56, 57, 1, .aload_n 0), (57, 60, 3, .getfield 46), (60, 63, 3, .getfield 78), (63, 64, 1, .aload_n 0), (64, 67, 3, .getfield 46), (67, 70, 3, .getfield 81), (70, 71, 1, .iload_n 3), (71, 72, 1, .iaload), (72, 73, 1, .aload_n 0), (73, 76, 3, .getfield 46), (76, 79, 3, .getfield 81), (79, 80, 1, .iload_n 3), (80, 81, 1, .iconst 1), (81, 82, 1, .iadd), (82, 83, 1, .iaload), (83, 86, 3, .invokevirtual 64), (86, 89, 3, .goto 19), (89, 90, 1, .aload_n 0), (90, 91, 1, .iload_n 3), (91, 92, 1, .aload_n 2), (92, 95, 3, .invokevirtual 84), (95, 97, 2, .istore 4), (97, 99, 2, .iload 4), (99, 102, 3, .ifCond .eq 6), (102, 104, 2, .iload 4), (104, 105, 1, .ireturn), (105, 106, 1, .aload_n 0), (106, 109, 3, .invokevirtual 68), (109, 112, 3, .ifCond .eq 5), (112, 113, 1, .iconst 5), (113, 114, 1, .ireturn), (114, 115, 1, .iload_n 1), (115, 116, 1, .iconst 1), (116, 117, 1, .iand), (117, 118, 1, .iconst 1), (118, 121, 3, .if_icmp .ne 81), (121, 122, 1, .aload_n 0), (122, 125, 3, .getfield 50), (125, 126, 1, .iconst 1), (126, 127, 1, .isub), (127, 129, 2, .istore 4), (129, 130, 1, .aload_n 0), (130, 133, 3, .getfield 10), (133, 134, 1, .aload_n 0), (134, 137, 3, .getfield 16), (137, 139, 2, .iload 4), (139, 140, 1, .iaload), (140, 141, 1, .aload_n 0), (141, 144, 3, .getfield 19), (144, 145, 1, .aload_n 0), (145, 148, 3, .getfield 22), (148, 149, 1, .aload_n 0), (149, 152, 3, .getfield 54), (152, 153, 1, .iaload), (153, 154, 1, .aload_n 0), (154, 156, 2, .iload 4), (156, 159, 3, .invokevirtual 88), (159, 162, 3, .invokestatic 57), (162, 163, 1, .aload_n 0), (163, 166, 3, .getfield 22), (166, 167, 1, .aload_n 0), (167, 170, 3, .getfield 54), (170, 171, 1, .iconst 1), (171, 172, 1, .iadd), (172, 173, 1, .aload_n 0), (173, 176, 3, .getfield 22), (176, 177, 1, .aload_n 0), (177, 180, 3, .getfield 54), (180, 181, 1, .iaload), (181, 182, 1, .aload_n 0), (182, 184, 2, .iload 4), (184, 187, 3, .invokevirtual 88), (187, 188, 1, .iadd), (188, 189, 1, .iastore), (189, 190, 1, .aload_n 0), (190, 191, 1, .dup), (191, 194, 3, .getfield 54), (194, 195, 1, .iconst 1), (195, 196, 1, .iadd), (196, 199, 3, .putfield 54), (199, 200, 1, .aload_n 0), (200, 203, 3, .invokevirtual 68), (203, 206, 3, .ifCond .eq 7), (206, 207, 1, .iconst 5), (207, 210, 3, .goto 4), (210, 211, 1, .iconst 0), (211, 212, 1, .ireturn)]
def ilX6_addStep : IL := [(0, 1, 1, .aload_n 0), (1, 4, 3, .getfield 34), (4, 7, 3, .getfield 324), (7, 8, 1, .iload_n 1), (8, 9, 1, .iconst 1), (9, 10, 1, .iadd), (10, 11, 1, .dup2), (11, 12, 1, .iaload), (12, 13, 1, .dup_x2), (13, 14, 1, .iconst 1), (14, 15, 1, .iadd), (15, 16, 1, .iastore), (16, 17, 1, .istore_n 3), (17, 18, 1, .aload_n 0), (18, 21, 3, .getfield 34), (21, 24, 3, .getfield 327), (24, 25, 1, .iload_n 3), (25, 26, 1, .iload_n 2), (26, 27, 1, .iastore), (27, 28, 1, .aload_n 0), (28, 31, 3, .getfield 15), (31, 32, 1, .iload_n 3), (32, 33, 1, .aload_n 0), (33, 36, 3, .getfield 30), (36, 39, 3, .getfield 55), (39, 40, 1, .iastore), (40, 41, 1, .return_)]
def ilX6_countNew : IL := [(0, 1, 1, .iconst 0), (1, 2, 1, .istore_n 3), (2, 3, 1, .iconst 0), (3, 5, 2, .istore 4), (5, 7, 2, .iload 4), (7, 8, 1, .iload_n 2), (8, 11, 3, .if_icmp .ge 35), (11, 12, 1, .iload_n 3), (12, 13, 1, .aload_n 0), (13, 16, 3, .getfield 38), (16, 17, 1, .aload_n 0), (17, 20, 3, .getfield 18), (20, 22, 2, .iload 4), (22, 23, 1, .iaload), (23, 24, 1, .iload_n 1), (24, 27, 3, .invokevirtual 190), (27, 30, 3, .ifCond .eq 7), (30, 31, 1, .iconst 0), (31, 34, 3, .goto 4), (34, 35, 1, .iconst 1), (35, 36, 1, .iadd), (36, 37, 1, .istore_n 3), (37, 40, 3, .iinc 4 1), (40, 43, 3, .goto (-35)), (43, 44, 1, .iload_n 3), (44, 45, 1, .ireturn)]
def ilX6_see : IL := [(0, 1, 1, .aload_n 0), (1, 4, 3, .getfield 34), (4, 7, 3, .getfield 245), (7, 8, 1, .iload_n 1), (8, 9, 1, .iaload), (9, 10, 1, .istore_n 2), (10, 11, 1, .iload_n 2), (11, 12, 1, .aload_n 0), (12, 15, 3, .getfield 34), (15, 18, 3, .getfield 245), (18, 19, 1, .iload_n 1), (19, 20, 1, .iconst 1), (20, 21, 1, .iadd), (21, 22, 1, .iaload), (22, 25, 3, .if_icmp .ge 45), (25, 26, 1, .aload_n 0), (26, 29, 3, .getfield 34), (29, 32, 3, .getfield 176), (32, 33, 1, .aload_n 0), (33, 36, 3, .getfield 34), (36, 39, 3, .getfield 242), (39, 40, 1, .iload_n 2), (40, 41, 1, .iaload), (41, 42, 1, .baload), (42, 45, 3, .ifCond .ne 19), (45, 46, 1, .aload_n 0), (46, 49, 3, .getfield 26), (49, 50, 1, .aload_n 0), (50, 53, 3, .getfield 34), (53, 56, 3, .getfield 242), (56, 57, 1, .iload_n 2), (57, 58, 1, .iaload), (58, 61, 3, .invokevirtual 289), (61, 64, 3, .iinc 2 1), (64, 67, 3, .goto (-54)), (67, 68, 1, .return_)]
def ilX6_floatingOnes : IL := [(0, 1, 1, .aload_n 0), (1, 4, 3, .getfield 26), (4, 7, 3, .invokevirtual 276), (7, 8, 1, .aload_n 0), (8, 9, 1, .iload_n 1), (9, 12, 3, .invokevirtual 279), (12, 13, 1, .iconst 0), (13, 14, 1, .istore_n 2), (14, 15, 1, .iload_n 2), (15, 16, 1, .iload_n 1), (16, 19, 3, .if_icmp .ge 87), (19, 20, 1, .aload_n 0), (20, 23, 3, .getfield 38), (23, 26, 3, .getfield 282), (26, 27, 1, .iload_n 2), (27, 28, 1, .baload), (28, 31, 3, .ifCond .eq 69), (31, 32, 1, .aload_n 0), (32, 35, 3, .getfield 34), (35, 38, 3, .getfield 210), (38, 39, 1, .iload_n 2), (39, 40, 1, .iaload), (40, 43, 3, .ifCond .ne 57), (43, 44, 1, .aload_n 0), (44, 47, 3, .getfield 26), (47, 48, 1, .aload_n 0), (48, 51, 3, .getfield 34), (51, 54, 3, .getfield 242), (54, 55, 1, .aload_n 0), (55, 58, 3, .getfield 34), (58, 61, 3, .getfield 245), (61, 62, 1, .iload_n 2), (62, 63, 1, .iaload), (63, 64, 1, .iconst 1), (64, 65, 1, .iadd), (65, 66, 1, .iaload), (66, 69, 3, .invokevirtual 285), (69, 72, 3, .ifCond .eq 28), (72, 73, 1, .aload_n 0), (73, 76, 3, .getfield 34), (76, 79, 3, .getfield 270), (79, 80, 1, .aload_n 0), (80, 83, 3, .getfield 34), (83, 86, 3, .getfield 273), (86, 87, 1, .iload_n 1), (87, 88, 1, .iconst 1), (88, 89, 1, .iadd), (89, 90, 1, .dup2), (90, 91, 1, .iaload), (91, 92, 1, .dup_x2), (92, 93, 1, .iconst 1), (93, 94, 1, .iadd), (94, 95, 1, .iastore), (95, 96, 1, .iload_n 2), (96, 97, 1, .iastore), (97, 100, 3, .iinc 2 1), (100, 103, 3, .goto (-86)), (103, 104, 1, .return_)]
def ilX6_isMandatory : IL := [(0, 1, 1, .iconst 0), (1, 2, 1, .istore_n 3), (2, 3, 1, .iconst 0), (3, 5, 2, .istore 4), (5, 7, 2, .iload 4), (7, 8, 1, .aload_n 0), (8, 11, 3, .getfield 34), (11, 12, 1, .iload_n 1), (12, 15, 3, .invokevirtual 292), (15, 18, 3, .if_icmp .ge 31), (18, 19, 1, .iload_n 3), (19, 20, 1, .aload_n 0), (20, 23, 3, .getfield 34), (23, 24, 1, .iload_n 1), (24, 26, 2, .iload 4), (26, 29, 3, .invokevirtual 344), (29, 30, 1, .iload_n 2), (30, 33, 3, .if_icmp .ne 7), (33, 34, 1, .iconst 1), (34, 37, 3, .goto 4), (37, 38, 1, .iconst 0), (38, 39, 1, .ior), (39, 40, 1, .istore_n 3), (40, 43, 3, .iinc 4 1), (43, 46, 3, .goto (-38)), (46, 47, 1, .iload_n 3), (47, 48, 1, .ireturn)]
def ilX6_isTold : IL := [(0, 1, 1, .iconst 0), (1, 2, 1, .istore_n 3), (2, 3, 1, .iconst 0), (3, 5, 2, .istore 4), (5, 7, 2, .iload 4), (7, 8, 1, .iload_n 2), (8, 11, 3, .if_icmp .ge 28), (11, 12, 1, .iload_n 3), (12, 13, 1, .aload_n 0), (13, 16, 3, .getfield 18), (16, 18, 2, .iload 4), (18, 19, 1, .iaload), (19, 20, 1, .iload_n 1), (20, 23, 3, .if_icmp .ne 7), (23, 24, 1, .iconst 1), (24, 27, 3, .goto 4), (27, 28, 1, .iconst 0), (28, 29, 1, .ior), (29, 30, 1, .istore_n 3), (30, 33, 3, .iinc 4 1), (33, 36, 3, .goto (-28)), (36, 37, 1, .iload_n 3), (37, 38, 1, .ireturn)]
def ilX6_put : IL := [(0, 1, 1, .aload_n 0), (1, 4, 3, .getfield 34), (4, 7, 3, .getfield 242), (7, 8, 1, .aload_n 0), (8, 11, 3, .getfield 34), (11, 14, 3, .getfield 245), (14, 15, 1, .iload_n 1), (15, 16, 1, .iconst 1), (16, 17, 1, .iadd), (17, 18, 1, .dup2), (18, 19, 1, .iaload), (19, 20, 1, .dup_x2), (20, 21, 1, .iconst 1), (21, 22, 1, .iadd), (22, 23, 1, .iastore), (23, 24, 1, .iload_n 2), (24, 25, 1, .iastore), (25, 26, 1, .return_)]
def kX5_push_527 (n : Nat) (a2 : Int) (a3 : Int) (N : NW) : OR :=
  ck (0 ≤ (N 547 3) ∧ (N 547 3) < 202) (ck (0 ≤ a2 ∧ 0 ≤ (N 549 (N 547 3)) ∧ 0 ≤ (w32 (a3 - a2)) ∧ a2 + (w32 (a3 - a2)) ≤ 30000 ∧ (N 549 (N 547 3)) + (w32 (a3 - a2)) ≤ 41100) (lt (cpN N 527 548 a2 (N 549 (N 547 3)) (w32 (a3 - a2))) (fun N3 => ck (0 ≤ (N3 547 3) ∧ (N3 547 3) < 202) (ck (0 ≤ (w32 ((N3 547 3) + 1)) ∧ (w32 ((N3 547 3) + 1)) < 202) (lt (up2 N3 549 (w32 ((N3 547 3) + 1)) (w32 ((w32 ((N3 549 (N3 547 3)) + a3)) - a2))) (fun N6 => lt (up2 N6 547 3 (w32 ((N6 547 3) + 1))) (fun N7 => some (0, N7))))))))
def kX5_push_550 (n : Nat) (a2 : Int) (a3 : Int) (N : NW) : OR :=
  ck (0 ≤ (N 547 3) ∧ (N 547 3) < 202) (ck (0 ≤ a2 ∧ 0 ≤ (N 549 (N 547 3)) ∧ 0 ≤ (w32 (a3 - a2)) ∧ a2 + (w32 (a3 - a2)) ≤ 41100 ∧ (N 549 (N 547 3)) + (w32 (a3 - a2)) ≤ 41100) (lt (cpN N 550 548 a2 (N 549 (N 547 3)) (w32 (a3 - a2))) (fun N3 => ck (0 ≤ (N3 547 3) ∧ (N3 547 3) < 202) (ck (0 ≤ (w32 ((N3 547 3) + 1)) ∧ (w32 ((N3 547 3) + 1)) < 202) (lt (up2 N3 549 (w32 ((N3 547 3) + 1)) (w32 ((w32 ((N3 549 (N3 547 3)) + a3)) - a2))) (fun N6 => lt (up2 N6 547 3 (w32 ((N6 547 3) + 1))) (fun N7 => some (0, N7))))))))
def kX5_step_565 (n : Nat) (a1 : Int) (N : NW) : OR :=
  if 0 ≤ a1 then (bn (kX3_isAssertion n (iShr a1 1) N) (fun r1 N2 => lt (fun (N4 : NW) => (bn (kX5_isTooMuch n N4) (fun r6 N7 => if r6 = 0 then (lt (fun (N9 : NW) => (bn (kX5_isTooMuch n N9) (fun r11 N12 => some (if r11 = 0 then (0 : Int) else 5, N12)) : OR)) (fun (J10 : NW → OR) => if (iAnd a1 1) = 1 then (ck (0 ≤ (w32 ((N7 547 3) - 1)) ∧ (w32 ((N7 547 3) - 1)) < 202) (ck (0 ≤ (N7 547 6) ∧ (N7 547 6) < 302) (bn (kX5_length n (w32 ((N7 547 3) - 1)) N7) (fun r18 N19 => ck (0 ≤ (N7 549 (w32 ((N7 547 3) - 1))) ∧ 0 ≤ (N7 551 (N7 547 6)) ∧ 0 ≤ r18 ∧ (N7 549 (w32 ((N7 547 3) - 1))) + r18 ≤ 41100 ∧ (N7 551 (N7 547 6)) + r18 ≤ 41100) (lt (cpN N19 548 550 (N7 549 (w32 ((N7 547 3) - 1))) (N7 551 (N7 547 6)) r18) (fun N22 => ck (0 ≤ (N22 547 6) ∧ (N22 547 6) < 302) (bn (kX5_length n (w32 ((N7 547 3) - 1)) N22) (fun r24 N25 => ck (0 ≤ (w32 ((N22 547 6) + 1)) ∧ (w32 ((N22 547 6) + 1)) < 302) (lt (up2 N25 551 (w32 ((N22 547 6) + 1)) (w32 ((N22 551 (N22 547 6)) + r24))) (fun N28 => lt (up2 N28 547 6 (w32 ((N28 547 6) + 1))) (fun N29 => J10 N29))))))))))) else (J10 N7))) else (some (5, N7))) : OR)) (fun (J5 : NW → OR) => if r1 = 0 then (ck (0 ≤ (iShr a1 1) ∧ (iShr a1 1) < 1501) (ck (0 ≤ (w32 ((iShr a1 1) + 1)) ∧ (w32 ((iShr a1 1) + 1)) < 1501) (bn (kX5_push_527 n (N2 526 (iShr a1 1)) (N2 526 (w32 ((iShr a1 1) + 1))) N2) (fun r38 N39 => J5 N39)))) else (bn (kX5_apply_565 n (iShr a1 1) N2) (fun r32 N33 => if r32 = 0 then (J5 N33) else (some (r32, N33))))))) else (ck (0 ≤ (w32 ((-1) - a1)) ∧ (w32 ((-1) - a1)) < 302) (ck (0 ≤ (w32 (-a1)) ∧ (w32 (-a1)) < 302) (bn (kX5_push_550 n (N 551 (w32 ((-1) - a1))) (N 551 (w32 (-a1))) N) (fun r44 N45 => bn (kX5_isTooMuch n N45) (fun r47 N48 => some (if r47 = 0 then (0 : Int) else 5, N48))))))
def kX5_step_572 (n : Nat) (a1 : Int) (N : NW) : OR :=
  if 0 ≤ a1 then (bn (kX3_isAssertion n (iShr a1 1) N) (fun r1 N2 => lt (fun (N4 : NW) => (bn (kX5_isTooMuch n N4) (fun r6 N7 => if r6 = 0 then (lt (fun (N9 : NW) => (bn (kX5_isTooMuch n N9) (fun r11 N12 => some (if r11 = 0 then (0 : Int) else 5, N12)) : OR)) (fun (J10 : NW → OR) => if (iAnd a1 1) = 1 then (ck (0 ≤ (w32 ((N7 547 3) - 1)) ∧ (w32 ((N7 547 3) - 1)) < 202) (ck (0 ≤ (N7 547 6) ∧ (N7 547 6) < 302) (bn (kX5_length n (w32 ((N7 547 3) - 1)) N7) (fun r18 N19 => ck (0 ≤ (N7 549 (w32 ((N7 547 3) - 1))) ∧ 0 ≤ (N7 551 (N7 547 6)) ∧ 0 ≤ r18 ∧ (N7 549 (w32 ((N7 547 3) - 1))) + r18 ≤ 41100 ∧ (N7 551 (N7 547 6)) + r18 ≤ 41100) (lt (cpN N19 548 550 (N7 549 (w32 ((N7 547 3) - 1))) (N7 551 (N7 547 6)) r18) (fun N22 => ck (0 ≤ (N22 547 6) ∧ (N22 547 6) < 302) (bn (kX5_length n (w32 ((N7 547 3) - 1)) N22) (fun r24 N25 => ck (0 ≤ (w32 ((N22 547 6) + 1)) ∧ (w32 ((N22 547 6) + 1)) < 302) (lt (up2 N25 551 (w32 ((N22 547 6) + 1)) (w32 ((N22 551 (N22 547 6)) + r24))) (fun N28 => lt (up2 N28 547 6 (w32 ((N28 547 6) + 1))) (fun N29 => J10 N29))))))))))) else (J10 N7))) else (some (5, N7))) : OR)) (fun (J5 : NW → OR) => if r1 = 0 then (ck (0 ≤ (iShr a1 1) ∧ (iShr a1 1) < 1501) (ck (0 ≤ (w32 ((iShr a1 1) + 1)) ∧ (w32 ((iShr a1 1) + 1)) < 1501) (bn (kX5_push_527 n (N2 526 (iShr a1 1)) (N2 526 (w32 ((iShr a1 1) + 1))) N2) (fun r38 N39 => J5 N39)))) else (bn (kX5_apply_572 n (iShr a1 1) N2) (fun r32 N33 => if r32 = 0 then (J5 N33) else (some (r32, N33))))))) else (ck (0 ≤ (w32 ((-1) - a1)) ∧ (w32 ((-1) - a1)) < 302) (ck (0 ≤ (w32 (-a1)) ∧ (w32 (-a1)) < 302) (bn (kX5_push_550 n (N 551 (w32 ((-1) - a1))) (N 551 (w32 (-a1))) N) (fun r44 N45 => bn (kX5_isTooMuch n N45) (fun r47 N48 => some (if r47 = 0 then (0 : Int) else 5, N48))))))
def kX6_addStep (n : Nat) (a1 : Int) (a2 : Int) (N : NW) : OR :=
  ck (0 ≤ (w32 (a1 + 1)) ∧ (w32 (a1 + 1)) < 1501) (ck (0 ≤ (w32 (a1 + 1)) ∧ (w32 (a1 + 1)) < 1501) (lt (up2 N 533 (w32 (a1 + 1)) (w32 ((N 533 (w32 (a1 + 1))) + 1))) (fun N3 => ck (0 ≤ (N 533 (w32 (a1 + 1))) ∧ (N 533 (w32 (a1 + 1))) < 20000) (lt (up2 N3 534 (N 533 (w32 (a1 + 1))) a2) (fun N5 => ck (0 ≤ (N 533 (w32 (a1 + 1))) ∧ (N 533 (w32 (a1 + 1))) < 20000) (lt (up2 N5 561 (N 533 (w32 (a1 + 1))) (N5 514 2)) (fun N7 => some (0, N7))))))))
def kX6_countNew_l5 (v1 : Int) (v2 : Int) (K : Int → NW → OR) : Nat → Int → Int → NW → OR
  | 0, _, _, _ => none
  | n + 1, v3, v4, N => if v2 ≤ v4 then (K v3 N) else (ck (0 ≤ v4 ∧ v4 < 300) (bn (kX4_isApart n (N 562 v4) v1 N) (fun r2 N3 => lt (w32 (v3 + (if r2 = 0 then (1 : Int) else 0))) (fun x3_5 => kX6_countNew_l5 v1 v2 K n x3_5 (w32 (v4 + 1)) N3))))
def kX6_countNew (n : Nat) (a1 : Int) (a2 : Int) (N : NW) : OR :=
  kX6_countNew_l5 a1 a2 (fun (x3_9 : Int) (N10 : NW) => (some (x3_9, N10) : OR)) n 0 0 N
def kX6_see_l10 (v1 : Int) (K : NW → OR) : Nat → Int → NW → OR
  | 0, _, _ => none
  | n + 1, v2, N => ck (0 ≤ (w32 (v1 + 1)) ∧ (w32 (v1 + 1)) < 1501) (if (N 526 (w32 (v1 + 1))) ≤ v2 then (K N) else (ck (0 ≤ v2 ∧ v2 < 30000) (ck (0 ≤ (N 527 v2) ∧ (N 527 v2) < 1000) (lt (fun (N5 : NW) => (kX6_see_l10 v1 K n (w32 (v2 + 1)) N5 : OR)) (fun (J6 : NW → OR) => if (N 521 (N 527 v2)) = 0 then (ck (0 ≤ v2 ∧ v2 < 30000) (bn (kJ10_set_563 n (N 527 v2) N) (fun r8 N9 => J6 N9))) else (J6 N))))))
def kX6_see (n : Nat) (a1 : Int) (N : NW) : OR :=
  ck (0 ≤ a1 ∧ a1 < 1501) (kX6_see_l10 a1 (fun (N13 : NW) => (some (0, N13) : OR)) n (N 526 a1) N)
def kX6_floatingOnes_l14 (v1 : Int) (K : NW → OR) : Nat → Int → NW → OR
  | 0, _, _ => none
  | n + 1, v2, N => if v1 ≤ v2 then (K N) else (ck (0 ≤ v2 ∧ v2 < 1500) (lt (fun (N8 : NW) => (kX6_floatingOnes_l14 v1 K n (w32 (v2 + 1)) N8 : OR)) (fun (J9 : NW → OR) => if (N 539 v2) = 0 then (J9 N) else (ck (0 ≤ v2 ∧ v2 < 1500) (if (N 524 v2) = 0 then (ck (0 ≤ v2 ∧ v2 < 1501) (ck (0 ≤ (w32 ((N 526 v2) + 1)) ∧ (w32 ((N 526 v2) + 1)) < 30000) (bn (kJ10_get_563 n (N 527 (w32 ((N 526 v2) + 1))) N) (fun r13 N14 => if r13 = 0 then (J9 N14) else (ck (0 ≤ (w32 (v1 + 1)) ∧ (w32 (v1 + 1)) < 1501) (ck (0 ≤ (w32 (v1 + 1)) ∧ (w32 (v1 + 1)) < 1501) (lt (up2 N14 528 (w32 (v1 + 1)) (w32 ((N14 528 (w32 (v1 + 1))) + 1))) (fun N18 => ck (0 ≤ (N14 528 (w32 (v1 + 1))) ∧ (N14 528 (w32 (v1 + 1))) < 120000) (lt (up2 N18 529 (N14 528 (w32 (v1 + 1))) v2) (fun N20 => J9 N20)))))))))) else (J9 N))))))
def kX6_floatingOnes (n : Nat) (a1 : Int) (N : NW) : OR :=
  bn (kJ10_clear_563 n N) (fun r1 N2 => bn (kX6_see n a1 N2) (fun r4 N5 => kX6_floatingOnes_l14 a1 (fun (N25 : NW) => (some (0, N25) : OR)) n 0 N5))
def kX6_isMandatory_l5 (v1 : Int) (v2 : Int) (K : Int → NW → OR) : Nat → Int → Int → NW → OR
  | 0, _, _, _ => none
  | n + 1, v3, v4, N => bn (kX3_mandatory n v1 N) (fun r1 N2 => if r1 ≤ v4 then (K v3 N2) else (bn (kX3_hypothesis n v1 v4 N2) (fun r4 N5 => lt (iOr v3 (if r4 = v2 then (1 : Int) else 0)) (fun x3_7 => kX6_isMandatory_l5 v1 v2 K n x3_7 (w32 (v4 + 1)) N5))))
def kX6_isMandatory (n : Nat) (a1 : Int) (a2 : Int) (N : NW) : OR :=
  kX6_isMandatory_l5 a1 a2 (fun (x3_11 : Int) (N12 : NW) => (ck ((0 : Int) ≤ x3_11 ∧ x3_11 < 2) (some (x3_11, N12)) : OR)) n 0 0 N
def kX6_isTold_l5 (v1 : Int) (v2 : Int) (K : Int → NW → OR) : Nat → Int → Int → NW → OR
  | 0, _, _, _ => none
  | n + 1, v3, v4, N => if v2 ≤ v4 then (K v3 N) else (ck (0 ≤ v4 ∧ v4 < 300) (lt (iOr v3 (if (N 562 v4) = v1 then (1 : Int) else 0)) (fun x3_2 => kX6_isTold_l5 v1 v2 K n x3_2 (w32 (v4 + 1)) N)))
def kX6_isTold (n : Nat) (a1 : Int) (a2 : Int) (N : NW) : OR :=
  kX6_isTold_l5 a1 a2 (fun (x3_6 : Int) (N7 : NW) => (ck ((0 : Int) ≤ x3_6 ∧ x3_6 < 2) (some (x3_6, N7)) : OR)) n 0 0 N
def kX6_put (n : Nat) (a1 : Int) (a2 : Int) (N : NW) : OR :=
  ck (0 ≤ (w32 (a1 + 1)) ∧ (w32 (a1 + 1)) < 1501) (ck (0 ≤ (w32 (a1 + 1)) ∧ (w32 (a1 + 1)) < 1501) (lt (up2 N 526 (w32 (a1 + 1)) (w32 ((N 526 (w32 (a1 + 1))) + 1))) (fun N3 => ck (0 ≤ (N 526 (w32 (a1 + 1))) ∧ (N 526 (w32 (a1 + 1))) < 30000) (lt (up2 N3 527 (N 526 (w32 (a1 + 1))) a2) (fun N5 => some (0, N5))))))
end
