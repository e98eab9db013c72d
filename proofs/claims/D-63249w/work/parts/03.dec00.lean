set_option maxRecDepth 100000
theorem dX0_view_0 : decode cX0_view 0 = .ok (.aload_n 3, 1) := by decide +kernel
theorem dX0_view_1 : decode cX0_view 1 = .ok (.iconst 0, 1) := by decide +kernel
theorem dX0_view_2 : decode cX0_view 2 = .ok (.aload_n 0, 1) := by decide +kernel
theorem dX0_view_3 : decode cX0_view 3 = .ok (.iload_n 1, 1) := by decide +kernel
theorem dX0_view_4 : decode cX0_view 4 = .ok (.iload_n 2, 1) := by decide +kernel
theorem dX0_view_5 : decode cX0_view 5 = .ok (.invokevirtual 7, 3) := by decide +kernel
theorem dX0_view_8 : decode cX0_view 8 = .ok (.i2l, 1) := by decide +kernel
theorem dX0_view_9 : decode cX0_view 9 = .ok (.lastore, 1) := by decide +kernel
theorem dX0_view_10 : decode cX0_view 10 = .ok (.goto 7, 3) := by decide +kernel
theorem dX0_view_13 : decode cX0_view 13 = .ok (.astore 4, 2) := by decide +kernel
theorem dX0_view_15 : decode cX0_view 15 = .ok (.iconst 1, 1) := by decide +kernel
theorem dX0_view_16 : decode cX0_view 16 = .ok (.ireturn, 1) := by decide +kernel
theorem dX0_view_17 : decode cX0_view 17 = .ok (.iconst 0, 1) := by decide +kernel
theorem dX0_view_18 : decode cX0_view 18 = .ok (.ireturn, 1) := by decide +kernel
theorem dX0_put_0 : decode cX0_put 0 = .ok (.aload_n 3, 1) := by decide +kernel
theorem dX0_put_1 : decode cX0_put 1 = .ok (.iconst 0, 1) := by decide +kernel
theorem dX0_put_2 : decode cX0_put 2 = .ok (.aload_n 0, 1) := by decide +kernel
theorem dX0_put_3 : decode cX0_put 3 = .ok (.iload_n 1, 1) := by decide +kernel
theorem dX0_put_4 : decode cX0_put 4 = .ok (.iload_n 2, 1) := by decide +kernel
theorem dX0_put_5 : decode cX0_put 5 = .ok (.invokevirtual 15, 3) := by decide +kernel
theorem dX0_put_8 : decode cX0_put 8 = .ok (.i2l, 1) := by decide +kernel
theorem dX0_put_9 : decode cX0_put 9 = .ok (.lastore, 1) := by decide +kernel
theorem dX0_put_10 : decode cX0_put 10 = .ok (.goto 15, 3) := by decide +kernel
theorem dX0_put_13 : decode cX0_put 13 = .ok (.astore 4, 2) := by decide +kernel
theorem dX0_put_15 : decode cX0_put 15 = .ok (.iconst 1, 1) := by decide +kernel
theorem dX0_put_16 : decode cX0_put 16 = .ok (.ireturn, 1) := by decide +kernel
theorem dX0_put_17 : decode cX0_put 17 = .ok (.astore 4, 2) := by decide +kernel
theorem dX0_put_19 : decode cX0_put 19 = .ok (.iconst 2, 1) := by decide +kernel
theorem dX0_put_20 : decode cX0_put 20 = .ok (.ireturn, 1) := by decide +kernel
theorem dX0_put_21 : decode cX0_put 21 = .ok (.astore 4, 2) := by decide +kernel
theorem dX0_put_23 : decode cX0_put 23 = .ok (.iconst 3, 1) := by decide +kernel
theorem dX0_put_24 : decode cX0_put 24 = .ok (.ireturn, 1) := by decide +kernel
theorem dX0_put_25 : decode cX0_put 25 = .ok (.iconst 0, 1) := by decide +kernel
theorem dX0_put_26 : decode cX0_put 26 = .ok (.ireturn, 1) := by decide +kernel
theorem dX0_get_0 : decode cX0_get 0 = .ok (.aload_n 2, 1) := by decide +kernel
theorem dX0_get_1 : decode cX0_get 1 = .ok (.iconst 0, 1) := by decide +kernel
theorem dX0_get_2 : decode cX0_get 2 = .ok (.aload_n 0, 1) := by decide +kernel
theorem dX0_get_3 : decode cX0_get 3 = .ok (.iload_n 1, 1) := by decide +kernel
theorem dX0_get_4 : decode cX0_get 4 = .ok (.invokevirtual 22, 3) := by decide +kernel
theorem dX0_get_7 : decode cX0_get 7 = .ok (.i2l, 1) := by decide +kernel
theorem dX0_get_8 : decode cX0_get 8 = .ok (.lastore, 1) := by decide +kernel
theorem dX0_get_9 : decode cX0_get 9 = .ok (.goto 6, 3) := by decide +kernel
theorem dX0_get_12 : decode cX0_get 12 = .ok (.astore_n 3, 1) := by decide +kernel
theorem dX0_get_13 : decode cX0_get 13 = .ok (.iconst 1, 1) := by decide +kernel
theorem dX0_get_14 : decode cX0_get 14 = .ok (.ireturn, 1) := by decide +kernel
theorem dX0_get_15 : decode cX0_get 15 = .ok (.iconst 0, 1) := by decide +kernel
theorem dX0_get_16 : decode cX0_get 16 = .ok (.ireturn, 1) := by decide +kernel
theorem dX0_remove_0 : decode cX0_remove 0 = .ok (.aload_n 2, 1) := by decide +kernel
theorem dX0_remove_1 : decode cX0_remove 1 = .ok (.iconst 0, 1) := by decide +kernel
theorem dX0_remove_2 : decode cX0_remove 2 = .ok (.aload_n 0, 1) := by decide +kernel
theorem dX0_remove_3 : decode cX0_remove 3 = .ok (.iload_n 1, 1) := by decide +kernel
theorem dX0_remove_4 : decode cX0_remove 4 = .ok (.invokevirtual 26, 3) := by decide +kernel
theorem dX0_remove_7 : decode cX0_remove 7 = .ok (.i2l, 1) := by decide +kernel
theorem dX0_remove_8 : decode cX0_remove 8 = .ok (.lastore, 1) := by decide +kernel
theorem dX0_remove_9 : decode cX0_remove 9 = .ok (.goto 6, 3) := by decide +kernel
theorem dX0_remove_12 : decode cX0_remove 12 = .ok (.astore_n 3, 1) := by decide +kernel
theorem dX0_remove_13 : decode cX0_remove 13 = .ok (.iconst 1, 1) := by decide +kernel
theorem dX0_remove_14 : decode cX0_remove 14 = .ok (.ireturn, 1) := by decide +kernel
theorem dX0_remove_15 : decode cX0_remove 15 = .ok (.iconst 0, 1) := by decide +kernel
theorem dX0_remove_16 : decode cX0_remove 16 = .ok (.ireturn, 1) := by decide +kernel
theorem dX0_find_0 : decode cX0_find 0 = .ok (.aload_n 3, 1) := by decide +kernel
theorem dX0_find_1 : decode cX0_find 1 = .ok (.iconst 0, 1) := by decide +kernel
theorem dX0_find_2 : decode cX0_find 2 = .ok (.aload_n 0, 1) := by decide +kernel
theorem dX0_find_3 : decode cX0_find 3 = .ok (.iload_n 1, 1) := by decide +kernel
theorem dX0_find_4 : decode cX0_find 4 = .ok (.iload_n 2, 1) := by decide +kernel
theorem dX0_find_5 : decode cX0_find 5 = .ok (.invokevirtual 29, 3) := by decide +kernel
theorem dX0_find_8 : decode cX0_find 8 = .ok (.i2l, 1) := by decide +kernel
theorem dX0_find_9 : decode cX0_find 9 = .ok (.lastore, 1) := by decide +kernel
theorem dX0_find_10 : decode cX0_find 10 = .ok (.goto 11, 3) := by decide +kernel
theorem dX0_find_13 : decode cX0_find 13 = .ok (.astore 4, 2) := by decide +kernel
theorem dX0_find_15 : decode cX0_find 15 = .ok (.iconst 1, 1) := by decide +kernel
theorem dX0_find_16 : decode cX0_find 16 = .ok (.ireturn, 1) := by decide +kernel
theorem dX0_find_17 : decode cX0_find 17 = .ok (.astore 4, 2) := by decide +kernel
theorem dX0_find_19 : decode cX0_find 19 = .ok (.iconst 2, 1) := by decide +kernel
theorem dX0_find_20 : decode cX0_find 20 = .ok (.ireturn, 1) := by decide +kernel
theorem dX0_find_21 : decode cX0_find 21 = .ok (.iconst 0, 1) := by decide +kernel
theorem dX0_find_22 : decode cX0_find 22 = .ok (.ireturn, 1) := by decide +kernel
theorem dX0_at_0 : decode cX0_at 0 = .ok (.aload_n 3, 1) := by decide +kernel
theorem dX0_at_1 : decode cX0_at 1 = .ok (.iconst 0, 1) := by decide +kernel
theorem dX0_at_2 : decode cX0_at 2 = .ok (.aload_n 0, 1) := by decide +kernel
theorem dX0_at_3 : decode cX0_at 3 = .ok (.iload_n 1, 1) := by decide +kernel
theorem dX0_at_4 : decode cX0_at 4 = .ok (.iload_n 2, 1) := by decide +kernel
theorem dX0_at_5 : decode cX0_at 5 = .ok (.invokevirtual 34, 3) := by decide +kernel
theorem dX0_at_8 : decode cX0_at 8 = .ok (.i2l, 1) := by decide +kernel
theorem dX0_at_9 : decode cX0_at 9 = .ok (.lastore, 1) := by decide +kernel
theorem dX0_at_10 : decode cX0_at 10 = .ok (.goto 11, 3) := by decide +kernel
theorem dX0_at_13 : decode cX0_at 13 = .ok (.astore 4, 2) := by decide +kernel
theorem dX0_at_15 : decode cX0_at 15 = .ok (.iconst 1, 1) := by decide +kernel
theorem dX0_at_16 : decode cX0_at 16 = .ok (.ireturn, 1) := by decide +kernel
theorem dX0_at_17 : decode cX0_at 17 = .ok (.astore 4, 2) := by decide +kernel
theorem dX0_at_19 : decode cX0_at 19 = .ok (.iconst 2, 1) := by decide +kernel
theorem dX0_at_20 : decode cX0_at 20 = .ok (.ireturn, 1) := by decide +kernel
theorem dX0_at_21 : decode cX0_at 21 = .ok (.iconst 0, 1) := by decide +kernel
theorem dX0_at_22 : decode cX0_at 22 = .ok (.ireturn, 1) := by decide +kernel
theorem dX0_poll_0 : decode cX0_poll 0 = .ok (.aload_n 3, 1) := by decide +kernel
theorem dX0_poll_1 : decode cX0_poll 1 = .ok (.iconst 0, 1) := by decide +kernel
theorem dX0_poll_2 : decode cX0_poll 2 = .ok (.aload_n 0, 1) := by decide +kernel
theorem dX0_poll_3 : decode cX0_poll 3 = .ok (.iload_n 1, 1) := by decide +kernel
theorem dX0_poll_4 : decode cX0_poll 4 = .ok (.iload_n 2, 1) := by decide +kernel
theorem dX0_poll_5 : decode cX0_poll 5 = .ok (.invokevirtual 37, 3) := by decide +kernel
theorem dX0_poll_8 : decode cX0_poll 8 = .ok (.i2l, 1) := by decide +kernel
theorem dX0_poll_9 : decode cX0_poll 9 = .ok (.lastore, 1) := by decide +kernel
theorem dX0_poll_10 : decode cX0_poll 10 = .ok (.goto 11, 3) := by decide +kernel
theorem dX0_poll_13 : decode cX0_poll 13 = .ok (.astore 4, 2) := by decide +kernel
theorem dX0_poll_15 : decode cX0_poll 15 = .ok (.iconst 1, 1) := by decide +kernel
theorem dX0_poll_16 : decode cX0_poll 16 = .ok (.ireturn, 1) := by decide +kernel
theorem dX0_poll_17 : decode cX0_poll 17 = .ok (.astore 4, 2) := by decide +kernel
theorem dX0_poll_19 : decode cX0_poll 19 = .ok (.iconst 2, 1) := by decide +kernel
theorem dX0_poll_20 : decode cX0_poll 20 = .ok (.ireturn, 1) := by decide +kernel
theorem dX0_poll_21 : decode cX0_poll 21 = .ok (.iconst 0, 1) := by decide +kernel
theorem dX0_poll_22 : decode cX0_poll 22 = .ok (.ireturn, 1) := by decide +kernel
theorem dX0_next_0 : decode cX0_next 0 = .ok (.aload_n 2, 1) := by decide +kernel
theorem dX0_next_1 : decode cX0_next 1 = .ok (.iconst 0, 1) := by decide +kernel
theorem dX0_next_2 : decode cX0_next 2 = .ok (.aload_n 0, 1) := by decide +kernel
theorem dX0_next_3 : decode cX0_next 3 = .ok (.iload_n 1, 1) := by decide +kernel
theorem dX0_next_4 : decode cX0_next 4 = .ok (.invokevirtual 41, 3) := by decide +kernel
theorem dX0_next_7 : decode cX0_next 7 = .ok (.i2l, 1) := by decide +kernel
theorem dX0_next_8 : decode cX0_next 8 = .ok (.lastore, 1) := by decide +kernel
theorem dX0_next_9 : decode cX0_next 9 = .ok (.goto 12, 3) := by decide +kernel
theorem dX0_next_12 : decode cX0_next 12 = .ok (.astore_n 3, 1) := by decide +kernel
theorem dX0_next_13 : decode cX0_next 13 = .ok (.iconst 1, 1) := by decide +kernel
theorem dX0_next_14 : decode cX0_next 14 = .ok (.ireturn, 1) := by decide +kernel
theorem dX0_next_15 : decode cX0_next 15 = .ok (.astore_n 3, 1) := by decide +kernel
theorem dX0_next_16 : decode cX0_next 16 = .ok (.iconst 2, 1) := by decide +kernel
theorem dX0_next_17 : decode cX0_next 17 = .ok (.ireturn, 1) := by decide +kernel
theorem dX0_next_18 : decode cX0_next 18 = .ok (.astore_n 3, 1) := by decide +kernel
theorem dX0_next_19 : decode cX0_next 19 = .ok (.iconst 3, 1) := by decide +kernel
theorem dX0_next_20 : decode cX0_next 20 = .ok (.ireturn, 1) := by decide +kernel
theorem dX0_next_21 : decode cX0_next 21 = .ok (.iconst 0, 1) := by decide +kernel
theorem dX0_next_22 : decode cX0_next 22 = .ok (.ireturn, 1) := by decide +kernel
theorem dX0_drop_0 : decode cX0_drop 0 = .ok (.aload_n 2, 1) := by decide +kernel
theorem dX0_drop_1 : decode cX0_drop 1 = .ok (.iconst 0, 1) := by decide +kernel
theorem dX0_drop_2 : decode cX0_drop 2 = .ok (.aload_n 0, 1) := by decide +kernel
theorem dX0_drop_3 : decode cX0_drop 3 = .ok (.iload_n 1, 1) := by decide +kernel
theorem dX0_drop_4 : decode cX0_drop 4 = .ok (.invokevirtual 44, 3) := by decide +kernel
theorem dX0_drop_7 : decode cX0_drop 7 = .ok (.i2l, 1) := by decide +kernel
theorem dX0_drop_8 : decode cX0_drop 8 = .ok (.lastore, 1) := by decide +kernel
theorem dX0_drop_9 : decode cX0_drop 9 = .ok (.goto 9, 3) := by decide +kernel
theorem dX0_drop_12 : decode cX0_drop 12 = .ok (.astore_n 3, 1) := by decide +kernel
theorem dX0_drop_13 : decode cX0_drop 13 = .ok (.iconst 1, 1) := by decide +kernel
theorem dX0_drop_14 : decode cX0_drop 14 = .ok (.ireturn, 1) := by decide +kernel
theorem dX0_drop_15 : decode cX0_drop 15 = .ok (.astore_n 3, 1) := by decide +kernel
theorem dX0_drop_16 : decode cX0_drop 16 = .ok (.iconst 2, 1) := by decide +kernel
theorem dX0_drop_17 : decode cX0_drop 17 = .ok (.ireturn, 1) := by decide +kernel
theorem dX0_drop_18 : decode cX0_drop 18 = .ok (.iconst 0, 1) := by decide +kernel
theorem dX0_drop_19 : decode cX0_drop 19 = .ok (.ireturn, 1) := by decide +kernel
theorem dX0_match_0 : decode cX0_match 0 = .ok (.aload_n 3, 1) := by decide +kernel
theorem dX0_match_1 : decode cX0_match 1 = .ok (.iconst 0, 1) := by decide +kernel
theorem dX0_match_2 : decode cX0_match 2 = .ok (.aload_n 0, 1) := by decide +kernel
theorem dX0_match_3 : decode cX0_match 3 = .ok (.iload_n 1, 1) := by decide +kernel
theorem dX0_match_4 : decode cX0_match 4 = .ok (.iload_n 2, 1) := by decide +kernel
theorem dX0_match_5 : decode cX0_match 5 = .ok (.invokevirtual 47, 3) := by decide +kernel
theorem dX0_match_8 : decode cX0_match 8 = .ok (.i2l, 1) := by decide +kernel
theorem dX0_match_9 : decode cX0_match 9 = .ok (.lastore, 1) := by decide +kernel
theorem dX0_match_10 : decode cX0_match 10 = .ok (.goto 11, 3) := by decide +kernel
theorem dX0_match_13 : decode cX0_match 13 = .ok (.astore 4, 2) := by decide +kernel
theorem dX0_match_15 : decode cX0_match 15 = .ok (.iconst 1, 1) := by decide +kernel
theorem dX0_match_16 : decode cX0_match 16 = .ok (.ireturn, 1) := by decide +kernel
theorem dX0_match_17 : decode cX0_match 17 = .ok (.astore 4, 2) := by decide +kernel
theorem dX0_match_19 : decode cX0_match 19 = .ok (.iconst 2, 1) := by decide +kernel
theorem dX0_match_20 : decode cX0_match 20 = .ok (.ireturn, 1) := by decide +kernel
theorem dX0_match_21 : decode cX0_match 21 = .ok (.iconst 0, 1) := by decide +kernel
theorem dX0_match_22 : decode cX0_match 22 = .ok (.ireturn, 1) := by decide +kernel
theorem dX0_edges_0 : decode cX0_edges 0 = .ok (.aload_n 2, 1) := by decide +kernel
theorem dX0_edges_1 : decode cX0_edges 1 = .ok (.iconst 0, 1) := by decide +kernel
theorem dX0_edges_2 : decode cX0_edges 2 = .ok (.aload_n 0, 1) := by decide +kernel
theorem dX0_edges_3 : decode cX0_edges 3 = .ok (.iload_n 1, 1) := by decide +kernel
theorem dX0_edges_4 : decode cX0_edges 4 = .ok (.invokevirtual 50, 3) := by decide +kernel
theorem dX0_edges_7 : decode cX0_edges 7 = .ok (.i2l, 1) := by decide +kernel
theorem dX0_edges_8 : decode cX0_edges 8 = .ok (.lastore, 1) := by decide +kernel
theorem dX0_edges_9 : decode cX0_edges 9 = .ok (.goto 6, 3) := by decide +kernel
theorem dX0_edges_12 : decode cX0_edges 12 = .ok (.astore_n 3, 1) := by decide +kernel
theorem dX0_edges_13 : decode cX0_edges 13 = .ok (.iconst 1, 1) := by decide +kernel
theorem dX0_edges_14 : decode cX0_edges 14 = .ok (.ireturn, 1) := by decide +kernel
theorem dX0_edges_15 : decode cX0_edges 15 = .ok (.iconst 0, 1) := by decide +kernel
theorem dX0_edges_16 : decode cX0_edges 16 = .ok (.ireturn, 1) := by decide +kernel
theorem dX0_freeze_0 : decode cX0_freeze 0 = .ok (.aload_n 2, 1) := by decide +kernel
theorem dX0_freeze_1 : decode cX0_freeze 1 = .ok (.iconst 0, 1) := by decide +kernel
theorem dX0_freeze_2 : decode cX0_freeze 2 = .ok (.aload_n 0, 1) := by decide +kernel
theorem dX0_freeze_3 : decode cX0_freeze 3 = .ok (.iload_n 1, 1) := by decide +kernel
theorem dX0_freeze_4 : decode cX0_freeze 4 = .ok (.invokevirtual 53, 3) := by decide +kernel
theorem dX0_freeze_7 : decode cX0_freeze 7 = .ok (.i2l, 1) := by decide +kernel
theorem dX0_freeze_8 : decode cX0_freeze 8 = .ok (.lastore, 1) := by decide +kernel
theorem dX0_freeze_9 : decode cX0_freeze 9 = .ok (.goto 6, 3) := by decide +kernel
theorem dX0_freeze_12 : decode cX0_freeze 12 = .ok (.astore_n 3, 1) := by decide +kernel
theorem dX0_freeze_13 : decode cX0_freeze 13 = .ok (.iconst 1, 1) := by decide +kernel
theorem dX0_freeze_14 : decode cX0_freeze 14 = .ok (.ireturn, 1) := by decide +kernel
theorem dX0_freeze_15 : decode cX0_freeze 15 = .ok (.iconst 0, 1) := by decide +kernel
theorem dX0_freeze_16 : decode cX0_freeze 16 = .ok (.ireturn, 1) := by decide +kernel
theorem dX0_insert_0 : decode cX0_insert 0 = .ok (.aload_n 2, 1) := by decide +kernel
theorem dX0_insert_1 : decode cX0_insert 1 = .ok (.iconst 0, 1) := by decide +kernel
theorem dX0_insert_2 : decode cX0_insert 2 = .ok (.aload_n 0, 1) := by decide +kernel
theorem dX0_insert_3 : decode cX0_insert 3 = .ok (.iload_n 1, 1) := by decide +kernel
theorem dX0_insert_4 : decode cX0_insert 4 = .ok (.invokevirtual 56, 3) := by decide +kernel
theorem dX0_insert_7 : decode cX0_insert 7 = .ok (.i2l, 1) := by decide +kernel
theorem dX0_insert_8 : decode cX0_insert 8 = .ok (.lastore, 1) := by decide +kernel
theorem dX0_insert_9 : decode cX0_insert 9 = .ok (.goto 9, 3) := by decide +kernel
theorem dX0_insert_12 : decode cX0_insert 12 = .ok (.astore_n 3, 1) := by decide +kernel
theorem dX0_insert_13 : decode cX0_insert 13 = .ok (.iconst 1, 1) := by decide +kernel
theorem dX0_insert_14 : decode cX0_insert 14 = .ok (.ireturn, 1) := by decide +kernel
theorem dX0_insert_15 : decode cX0_insert 15 = .ok (.astore_n 3, 1) := by decide +kernel
theorem dX0_insert_16 : decode cX0_insert 16 = .ok (.iconst 2, 1) := by decide +kernel
theorem dX0_insert_17 : decode cX0_insert 17 = .ok (.ireturn, 1) := by decide +kernel
theorem dX0_insert_18 : decode cX0_insert 18 = .ok (.iconst 0, 1) := by decide +kernel
theorem dX0_insert_19 : decode cX0_insert 19 = .ok (.ireturn, 1) := by decide +kernel
theorem dX0_delete_0 : decode cX0_delete 0 = .ok (.aload_n 3, 1) := by decide +kernel
theorem dX0_delete_1 : decode cX0_delete 1 = .ok (.iconst 0, 1) := by decide +kernel
theorem dX0_delete_2 : decode cX0_delete 2 = .ok (.aload_n 0, 1) := by decide +kernel
theorem dX0_delete_3 : decode cX0_delete 3 = .ok (.iload_n 1, 1) := by decide +kernel
theorem dX0_delete_4 : decode cX0_delete 4 = .ok (.iload_n 2, 1) := by decide +kernel
theorem dX0_delete_5 : decode cX0_delete 5 = .ok (.invokevirtual 59, 3) := by decide +kernel
theorem dX0_delete_8 : decode cX0_delete 8 = .ok (.i2l, 1) := by decide +kernel
theorem dX0_delete_9 : decode cX0_delete 9 = .ok (.lastore, 1) := by decide +kernel
theorem dX0_delete_10 : decode cX0_delete 10 = .ok (.goto 7, 3) := by decide +kernel
theorem dX0_delete_13 : decode cX0_delete 13 = .ok (.astore 4, 2) := by decide +kernel
theorem dX0_delete_15 : decode cX0_delete 15 = .ok (.iconst 1, 1) := by decide +kernel
theorem dX0_delete_16 : decode cX0_delete 16 = .ok (.ireturn, 1) := by decide +kernel
theorem dX0_delete_17 : decode cX0_delete 17 = .ok (.iconst 0, 1) := by decide +kernel
theorem dX0_delete_18 : decode cX0_delete 18 = .ok (.ireturn, 1) := by decide +kernel
theorem dX1_init_0 : decode cX1_init 0 = .ok (.aload_n 0, 1) := by decide +kernel
theorem dX1_init_1 : decode cX1_init 1 = .ok (.invokespecial 1, 3) := by decide +kernel
theorem dX1_init_4 : decode cX1_init 4 = .ok (.aload_n 0, 1) := by decide +kernel
theorem dX1_init_5 : decode cX1_init 5 = .ok (.new 7, 3) := by decide +kernel
theorem dX1_init_8 : decode cX1_init 8 = .ok (.dup, 1) := by decide +kernel
theorem dX1_init_9 : decode cX1_init 9 = .ok (.invokespecial 9, 3) := by decide +kernel
theorem dX1_init_12 : decode cX1_init 12 = .ok (.putfield 10, 3) := by decide +kernel
theorem dX1_init_15 : decode cX1_init 15 = .ok (.aload_n 0, 1) := by decide +kernel
theorem dX1_init_16 : decode cX1_init 16 = .ok (.bipush 12, 2) := by decide +kernel
theorem dX1_init_18 : decode cX1_init 18 = .ok (.anewarray 16, 3) := by decide +kernel
theorem dX1_init_21 : decode cX1_init 21 = .ok (.putfield 18, 3) := by decide +kernel
theorem dX1_init_24 : decode cX1_init 24 = .ok (.aload_n 0, 1) := by decide +kernel
theorem dX1_init_25 : decode cX1_init 25 = .ok (.iconst 3, 1) := by decide +kernel
theorem dX1_init_26 : decode cX1_init 26 = .ok (.putfield 22, 3) := by decide +kernel
theorem dX1_init_29 : decode cX1_init 29 = .ok (.aload_n 0, 1) := by decide +kernel
theorem dX1_init_30 : decode cX1_init 30 = .ok (.new 26, 3) := by decide +kernel
theorem dX1_init_33 : decode cX1_init 33 = .ok (.dup, 1) := by decide +kernel
theorem dX1_init_34 : decode cX1_init 34 = .ok (.invokespecial 28, 3) := by decide +kernel
theorem dX1_init_37 : decode cX1_init 37 = .ok (.putfield 29, 3) := by decide +kernel
theorem dX1_init_40 : decode cX1_init 40 = .ok (.aload_n 0, 1) := by decide +kernel
theorem dX1_init_41 : decode cX1_init 41 = .ok (.new 33, 3) := by decide +kernel
theorem dX1_init_44 : decode cX1_init 44 = .ok (.dup, 1) := by decide +kernel
theorem dX1_init_45 : decode cX1_init 45 = .ok (.invokespecial 35, 3) := by decide +kernel
theorem dX1_init_48 : decode cX1_init 48 = .ok (.putfield 36, 3) := by decide +kernel
theorem dX1_init_51 : decode cX1_init 51 = .ok (.aload_n 0, 1) := by decide +kernel
theorem dX1_init_52 : decode cX1_init 52 = .ok (.new 7, 3) := by decide +kernel
theorem dX1_init_55 : decode cX1_init 55 = .ok (.dup, 1) := by decide +kernel
theorem dX1_init_56 : decode cX1_init 56 = .ok (.invokespecial 9, 3) := by decide +kernel
theorem dX1_init_59 : decode cX1_init 59 = .ok (.putfield 40, 3) := by decide +kernel
theorem dX1_init_62 : decode cX1_init 62 = .ok (.aload_n 0, 1) := by decide +kernel
theorem dX1_init_63 : decode cX1_init 63 = .ok (.new 43, 3) := by decide +kernel
theorem dX1_init_66 : decode cX1_init 66 = .ok (.dup, 1) := by decide +kernel
theorem dX1_init_67 : decode cX1_init 67 = .ok (.invokespecial 45, 3) := by decide +kernel
theorem dX1_init_70 : decode cX1_init 70 = .ok (.putfield 46, 3) := by decide +kernel
theorem dX1_init_73 : decode cX1_init 73 = .ok (.aload_n 0, 1) := by decide +kernel
theorem dX1_init_74 : decode cX1_init 74 = .ok (.new 50, 3) := by decide +kernel
theorem dX1_init_77 : decode cX1_init 77 = .ok (.dup, 1) := by decide +kernel
theorem dX1_init_78 : decode cX1_init 78 = .ok (.invokespecial 52, 3) := by decide +kernel
theorem dX1_init_81 : decode cX1_init 81 = .ok (.putfield 53, 3) := by decide +kernel
theorem dX1_init_84 : decode cX1_init 84 = .ok (.aload_n 0, 1) := by decide +kernel
theorem dX1_init_85 : decode cX1_init 85 = .ok (.new 7, 3) := by decide +kernel
theorem dX1_init_88 : decode cX1_init 88 = .ok (.dup, 1) := by decide +kernel
theorem dX1_init_89 : decode cX1_init 89 = .ok (.invokespecial 9, 3) := by decide +kernel
theorem dX1_init_92 : decode cX1_init 92 = .ok (.putfield 57, 3) := by decide +kernel
theorem dX1_init_95 : decode cX1_init 95 = .ok (.aload_n 0, 1) := by decide +kernel
theorem dX1_init_96 : decode cX1_init 96 = .ok (.getfield 18, 3) := by decide +kernel
theorem dX1_init_99 : decode cX1_init 99 = .ok (.iconst 0, 1) := by decide +kernel
theorem dX1_init_100 : decode cX1_init 100 = .ok (.new 16, 3) := by decide +kernel
theorem dX1_init_103 : decode cX1_init 103 = .ok (.dup, 1) := by decide +kernel
theorem dX1_init_104 : decode cX1_init 104 = .ok (.aload_n 0, 1) := by decide +kernel
theorem dX1_init_105 : decode cX1_init 105 = .ok (.getfield 29, 3) := by decide +kernel
theorem dX1_init_108 : decode cX1_init 108 = .ok (.invokespecial 60, 3) := by decide +kernel
theorem dX1_init_111 : decode cX1_init 111 = .ok (.aastore, 1) := by decide +kernel
theorem dX1_init_112 : decode cX1_init 112 = .ok (.aload_n 0, 1) := by decide +kernel
theorem dX1_init_113 : decode cX1_init 113 = .ok (.getfield 18, 3) := by decide +kernel
theorem dX1_init_116 : decode cX1_init 116 = .ok (.iconst 1, 1) := by decide +kernel
theorem dX1_init_117 : decode cX1_init 117 = .ok (.new 16, 3) := by decide +kernel
theorem dX1_init_120 : decode cX1_init 120 = .ok (.dup, 1) := by decide +kernel
theorem dX1_init_121 : decode cX1_init 121 = .ok (.aload_n 0, 1) := by decide +kernel
theorem dX1_init_122 : decode cX1_init 122 = .ok (.getfield 36, 3) := by decide +kernel
theorem dX1_init_125 : decode cX1_init 125 = .ok (.invokespecial 60, 3) := by decide +kernel
theorem dX1_init_128 : decode cX1_init 128 = .ok (.aastore, 1) := by decide +kernel
theorem dX1_init_129 : decode cX1_init 129 = .ok (.aload_n 0, 1) := by decide +kernel
theorem dX1_init_130 : decode cX1_init 130 = .ok (.getfield 18, 3) := by decide +kernel
theorem dX1_init_133 : decode cX1_init 133 = .ok (.iconst 2, 1) := by decide +kernel
theorem dX1_init_134 : decode cX1_init 134 = .ok (.new 16, 3) := by decide +kernel
theorem dX1_init_137 : decode cX1_init 137 = .ok (.dup, 1) := by decide +kernel
theorem dX1_init_138 : decode cX1_init 138 = .ok (.new 63, 3) := by decide +kernel
theorem dX1_init_141 : decode cX1_init 141 = .ok (.dup, 1) := by decide +kernel
theorem dX1_init_142 : decode cX1_init 142 = .ok (.invokespecial 65, 3) := by decide +kernel
theorem dX1_init_145 : decode cX1_init 145 = .ok (.invokespecial 60, 3) := by decide +kernel
theorem dX1_init_148 : decode cX1_init 148 = .ok (.aastore, 1) := by decide +kernel
theorem dX1_init_149 : decode cX1_init 149 = .ok (.aload_n 0, 1) := by decide +kernel
theorem dX1_init_150 : decode cX1_init 150 = .ok (.getfield 46, 3) := by decide +kernel
theorem dX1_init_153 : decode cX1_init 153 = .ok (.invokevirtual 66, 3) := by decide +kernel
theorem dX1_init_156 : decode cX1_init 156 = .ok (.return_, 1) := by decide +kernel
theorem dX1_type_0 : decode cX1_type 0 = .ok (.iload_n 3, 1) := by decide +kernel
theorem dX1_type_1 : decode cX1_type 1 = .ok (.iconst 1, 1) := by decide +kernel
theorem dX1_type_2 : decode cX1_type 2 = .ok (.if_icmp .lt 22, 3) := by decide +kernel
theorem dX1_type_5 : decode cX1_type 5 = .ok (.iload_n 3, 1) := by decide +kernel
theorem dX1_type_6 : decode cX1_type 6 = .ok (.iconst 4, 1) := by decide +kernel
theorem dX1_type_7 : decode cX1_type 7 = .ok (.if_icmp .gt 17, 3) := by decide +kernel
theorem dX1_type_10 : decode cX1_type 10 = .ok (.aload_n 0, 1) := by decide +kernel
theorem dX1_type_11 : decode cX1_type 11 = .ok (.getfield 10, 3) := by decide +kernel
theorem dX1_type_14 : decode cX1_type 14 = .ok (.getfield 84, 3) := by decide +kernel
theorem dX1_type_17 : decode cX1_type 17 = .ok (.iload_n 3, 1) := by decide +kernel
theorem dX1_type_18 : decode cX1_type 18 = .ok (.iadd, 1) := by decide +kernel
theorem dX1_type_19 : decode cX1_type 19 = .ok (.bipush 8, 2) := by decide +kernel
theorem dX1_type_21 : decode cX1_type 21 = .ok (.if_icmp .le 5, 3) := by decide +kernel
theorem dX1_type_24 : decode cX1_type 24 = .ok (.iconst 0, 1) := by decide +kernel
theorem dX1_type_25 : decode cX1_type 25 = .ok (.ireturn, 1) := by decide +kernel
theorem dX1_type_26 : decode cX1_type 26 = .ok (.iload_n 3, 1) := by decide +kernel
theorem dX1_type_27 : decode cX1_type 27 = .ok (.iconst 1, 1) := by decide +kernel
theorem dX1_type_28 : decode cX1_type 28 = .ok (.isub, 1) := by decide +kernel
theorem dX1_type_29 : decode cX1_type 29 = .ok (.istore 4, 2) := by decide +kernel
theorem dX1_type_31 : decode cX1_type 31 = .ok (.iload 4, 2) := by decide +kernel
theorem dX1_type_33 : decode cX1_type 33 = .ok (.ifCond .lt 40, 3) := by decide +kernel
theorem dX1_type_36 : decode cX1_type 36 = .ok (.aload_n 0, 1) := by decide +kernel
theorem dX1_type_37 : decode cX1_type 37 = .ok (.getfield 10, 3) := by decide +kernel
theorem dX1_type_40 : decode cX1_type 40 = .ok (.getfield 87, 3) := by decide +kernel
theorem dX1_type_43 : decode cX1_type 43 = .ok (.aload_n 0, 1) := by decide +kernel
theorem dX1_type_44 : decode cX1_type 44 = .ok (.getfield 10, 3) := by decide +kernel
theorem dX1_type_47 : decode cX1_type 47 = .ok (.dup, 1) := by decide +kernel
theorem dX1_type_48 : decode cX1_type 48 = .ok (.getfield 84, 3) := by decide +kernel
theorem dX1_type_51 : decode cX1_type 51 = .ok (.dup_x1, 1) := by decide +kernel
theorem dX1_type_52 : decode cX1_type 52 = .ok (.iconst 1, 1) := by decide +kernel
theorem dX1_type_53 : decode cX1_type 53 = .ok (.iadd, 1) := by decide +kernel
theorem dX1_type_54 : decode cX1_type 54 = .ok (.putfield 84, 3) := by decide +kernel
theorem dX1_type_57 : decode cX1_type 57 = .ok (.lload_n 1, 1) := by decide +kernel
theorem dX1_type_58 : decode cX1_type 58 = .ok (.bipush 16, 2) := by decide +kernel
theorem dX1_type_60 : decode cX1_type 60 = .ok (.iload 4, 2) := by decide +kernel
theorem dX1_type_62 : decode cX1_type 62 = .ok (.imul, 1) := by decide +kernel
theorem dX1_type_63 : decode cX1_type 63 = .ok (.lshr, 1) := by decide +kernel
theorem dX1_type_64 : decode cX1_type 64 = .ok (.l2i, 1) := by decide +kernel
theorem dX1_type_65 : decode cX1_type 65 = .ok (.i2c, 1) := by decide +kernel
theorem dX1_type_66 : decode cX1_type 66 = .ok (.castore, 1) := by decide +kernel
theorem dX1_type_67 : decode cX1_type 67 = .ok (.iinc 4 (-1), 3) := by decide +kernel
theorem dX1_type_70 : decode cX1_type 70 = .ok (.goto (-39), 3) := by decide +kernel
theorem dX1_type_73 : decode cX1_type 73 = .ok (.iconst 1, 1) := by decide +kernel
theorem dX1_type_74 : decode cX1_type 74 = .ok (.ireturn, 1) := by decide +kernel
theorem dX1_size_0 : decode cX1_size 0 = .ok (.iload_n 1, 1) := by decide +kernel
theorem dX1_size_1 : decode cX1_size 1 = .ok (.ifCond .lt 11, 3) := by decide +kernel
theorem dX1_size_4 : decode cX1_size 4 = .ok (.iload_n 1, 1) := by decide +kernel
theorem dX1_size_5 : decode cX1_size 5 = .ok (.aload_n 0, 1) := by decide +kernel
theorem dX1_size_6 : decode cX1_size 6 = .ok (.getfield 22, 3) := by decide +kernel
theorem dX1_size_9 : decode cX1_size 9 = .ok (.if_icmp .lt 7, 3) := by decide +kernel
theorem dX1_size_12 : decode cX1_size 12 = .ok (.iconst (-1), 1) := by decide +kernel
theorem dX1_size_13 : decode cX1_size 13 = .ok (.goto 12, 3) := by decide +kernel
theorem dX1_size_16 : decode cX1_size 16 = .ok (.aload_n 0, 1) := by decide +kernel
theorem dX1_size_17 : decode cX1_size 17 = .ok (.getfield 18, 3) := by decide +kernel
theorem dX1_size_20 : decode cX1_size 20 = .ok (.iload_n 1, 1) := by decide +kernel
theorem dX1_size_21 : decode cX1_size 21 = .ok (.aaload, 1) := by decide +kernel
theorem dX1_size_22 : decode cX1_size 22 = .ok (.invokevirtual 161, 3) := by decide +kernel
theorem dX1_size_25 : decode cX1_size 25 = .ok (.ireturn, 1) := by decide +kernel
theorem dX1_found_0 : decode cX1_found 0 = .ok (.iload_n 1, 1) := by decide +kernel
theorem dX1_found_1 : decode cX1_found 1 = .ok (.iconst (-1), 1) := by decide +kernel
theorem dX1_found_2 : decode cX1_found 2 = .ok (.if_icmp .ne 13, 3) := by decide +kernel
theorem dX1_found_5 : decode cX1_found 5 = .ok (.aload_n 0, 1) := by decide +kernel
theorem dX1_found_6 : decode cX1_found 6 = .ok (.getfield 40, 3) := by decide +kernel
theorem dX1_found_9 : decode cX1_found 9 = .ok (.getfield 84, 3) := by decide +kernel
theorem dX1_found_12 : decode cX1_found 12 = .ok (.goto 31, 3) := by decide +kernel
theorem dX1_found_15 : decode cX1_found 15 = .ok (.iload_n 1, 1) := by decide +kernel
theorem dX1_found_16 : decode cX1_found 16 = .ok (.ifCond .lt 14, 3) := by decide +kernel
theorem dX1_found_19 : decode cX1_found 19 = .ok (.iload_n 1, 1) := by decide +kernel
theorem dX1_found_20 : decode cX1_found 20 = .ok (.aload_n 0, 1) := by decide +kernel
theorem dX1_found_21 : decode cX1_found 21 = .ok (.getfield 40, 3) := by decide +kernel
theorem dX1_found_24 : decode cX1_found 24 = .ok (.getfield 84, 3) := by decide +kernel
theorem dX1_found_27 : decode cX1_found 27 = .ok (.if_icmp .lt 7, 3) := by decide +kernel
theorem dX1_found_30 : decode cX1_found 30 = .ok (.iconst (-1), 1) := by decide +kernel
theorem dX1_found_31 : decode cX1_found 31 = .ok (.goto 12, 3) := by decide +kernel
theorem dX1_found_34 : decode cX1_found 34 = .ok (.aload_n 0, 1) := by decide +kernel
theorem dX1_found_35 : decode cX1_found 35 = .ok (.getfield 40, 3) := by decide +kernel
theorem dX1_found_38 : decode cX1_found 38 = .ok (.getfield 87, 3) := by decide +kernel
theorem dX1_found_41 : decode cX1_found 41 = .ok (.iload_n 1, 1) := by decide +kernel
theorem dX1_found_42 : decode cX1_found 42 = .ok (.caload, 1) := by decide +kernel
theorem dX1_found_43 : decode cX1_found 43 = .ok (.ireturn, 1) := by decide +kernel
theorem dX1_iterate_0 : decode cX1_iterate 0 = .ok (.iload_n 1, 1) := by decide +kernel
theorem dX1_iterate_1 : decode cX1_iterate 1 = .ok (.ifCond .lt 11, 3) := by decide +kernel
theorem dX1_iterate_4 : decode cX1_iterate 4 = .ok (.iload_n 1, 1) := by decide +kernel
theorem dX1_iterate_5 : decode cX1_iterate 5 = .ok (.aload_n 0, 1) := by decide +kernel
theorem dX1_iterate_6 : decode cX1_iterate 6 = .ok (.getfield 22, 3) := by decide +kernel
theorem dX1_iterate_9 : decode cX1_iterate 9 = .ok (.if_icmp .lt 5, 3) := by decide +kernel
theorem dX1_iterate_12 : decode cX1_iterate 12 = .ok (.iconst 0, 1) := by decide +kernel
theorem dX1_iterate_13 : decode cX1_iterate 13 = .ok (.ireturn, 1) := by decide +kernel
theorem dX1_iterate_14 : decode cX1_iterate 14 = .ok (.aload_n 0, 1) := by decide +kernel
theorem dX1_iterate_15 : decode cX1_iterate 15 = .ok (.getfield 18, 3) := by decide +kernel
theorem dX1_iterate_18 : decode cX1_iterate 18 = .ok (.iload_n 1, 1) := by decide +kernel
theorem dX1_iterate_19 : decode cX1_iterate 19 = .ok (.aaload, 1) := by decide +kernel
theorem dX1_iterate_20 : decode cX1_iterate 20 = .ok (.invokevirtual 185, 3) := by decide +kernel
theorem dX1_iterate_23 : decode cX1_iterate 23 = .ok (.iconst 1, 1) := by decide +kernel
theorem dX1_iterate_24 : decode cX1_iterate 24 = .ok (.ireturn, 1) := by decide +kernel
theorem dX1_automaton_0 : decode cX1_automaton 0 = .ok (.iload_n 1, 1) := by decide +kernel
theorem dX1_automaton_1 : decode cX1_automaton 1 = .ok (.ifCond .lt 8, 3) := by decide +kernel
theorem dX1_automaton_4 : decode cX1_automaton 4 = .ok (.iload_n 1, 1) := by decide +kernel
theorem dX1_automaton_5 : decode cX1_automaton 5 = .ok (.iconst 4, 1) := by decide +kernel
theorem dX1_automaton_6 : decode cX1_automaton 6 = .ok (.if_icmp .le 5, 3) := by decide +kernel
theorem dX1_automaton_9 : decode cX1_automaton 9 = .ok (.iconst (-1), 1) := by decide +kernel
theorem dX1_automaton_10 : decode cX1_automaton 10 = .ok (.ireturn, 1) := by decide +kernel
theorem dX1_automaton_11 : decode cX1_automaton 11 = .ok (.iload_n 1, 1) := by decide +kernel
theorem dX1_automaton_12 : decode cX1_automaton 12 = .ok (.iconst 3, 1) := by decide +kernel
theorem dX1_automaton_13 : decode cX1_automaton 13 = .ok (.if_icmp .ge 12, 3) := by decide +kernel
theorem dX1_automaton_16 : decode cX1_automaton 16 = .ok (.aload_n 0, 1) := by decide +kernel
theorem dX1_automaton_17 : decode cX1_automaton 17 = .ok (.getfield 46, 3) := by decide +kernel
theorem dX1_automaton_20 : decode cX1_automaton 20 = .ok (.iload_n 1, 1) := by decide +kernel
theorem dX1_automaton_21 : decode cX1_automaton 21 = .ok (.invokevirtual 231, 3) := by decide +kernel
theorem dX1_automaton_24 : decode cX1_automaton 24 = .ok (.ireturn, 1) := by decide +kernel
theorem dX1_automaton_25 : decode cX1_automaton 25 = .ok (.aload_n 0, 1) := by decide +kernel
theorem dX1_automaton_26 : decode cX1_automaton 26 = .ok (.invokevirtual 95, 3) := by decide +kernel
theorem dX1_automaton_29 : decode cX1_automaton 29 = .ok (.astore_n 2, 1) := by decide +kernel
theorem dX1_automaton_30 : decode cX1_automaton 30 = .ok (.aload_n 0, 1) := by decide +kernel
theorem dX1_automaton_31 : decode cX1_automaton 31 = .ok (.getfield 46, 3) := by decide +kernel
theorem dX1_automaton_34 : decode cX1_automaton 34 = .ok (.getfield 233, 3) := by decide +kernel
theorem dX1_automaton_37 : decode cX1_automaton 37 = .ok (.iconst (-1), 1) := by decide +kernel
theorem dX1_automaton_38 : decode cX1_automaton 38 = .ok (.if_icmp .ne 14, 3) := by decide +kernel
theorem dX1_automaton_41 : decode cX1_automaton 41 = .ok (.iload_n 1, 1) := by decide +kernel
theorem dX1_automaton_42 : decode cX1_automaton 42 = .ok (.iconst 3, 1) := by decide +kernel
theorem dX1_automaton_43 : decode cX1_automaton 43 = .ok (.if_icmp .ne 7, 3) := by decide +kernel
theorem dX1_automaton_46 : decode cX1_automaton 46 = .ok (.iconst (-1), 1) := by decide +kernel
theorem dX1_automaton_47 : decode cX1_automaton 47 = .ok (.goto 4, 3) := by decide +kernel
theorem dX1_automaton_50 : decode cX1_automaton 50 = .ok (.iconst 0, 1) := by decide +kernel
theorem dX1_automaton_51 : decode cX1_automaton 51 = .ok (.ireturn, 1) := by decide +kernel
theorem dX1_automaton_52 : decode cX1_automaton 52 = .ok (.aload_n 0, 1) := by decide +kernel
theorem dX1_automaton_53 : decode cX1_automaton 53 = .ok (.getfield 46, 3) := by decide +kernel
theorem dX1_automaton_56 : decode cX1_automaton 56 = .ok (.aload_n 2, 1) := by decide +kernel
theorem dX1_automaton_57 : decode cX1_automaton 57 = .ok (.invokevirtual 236, 3) := by decide +kernel
theorem dX1_automaton_60 : decode cX1_automaton 60 = .ok (.istore_n 3, 1) := by decide +kernel
theorem dX1_automaton_61 : decode cX1_automaton 61 = .ok (.iload_n 1, 1) := by decide +kernel
theorem dX1_automaton_62 : decode cX1_automaton 62 = .ok (.iconst 4, 1) := by decide +kernel
theorem dX1_automaton_63 : decode cX1_automaton 63 = .ok (.if_icmp .ne 15, 3) := by decide +kernel
theorem dX1_automaton_66 : decode cX1_automaton 66 = .ok (.iload_n 3, 1) := by decide +kernel
theorem dX1_automaton_67 : decode cX1_automaton 67 = .ok (.ifCond .ge 7, 3) := by decide +kernel
theorem dX1_automaton_70 : decode cX1_automaton 70 = .ok (.iconst 1, 1) := by decide +kernel
theorem dX1_automaton_71 : decode cX1_automaton 71 = .ok (.goto 19, 3) := by decide +kernel
theorem dX1_automaton_74 : decode cX1_automaton 74 = .ok (.iconst 0, 1) := by decide +kernel
theorem dX1_automaton_75 : decode cX1_automaton 75 = .ok (.goto 15, 3) := by decide +kernel
theorem dX1_automaton_78 : decode cX1_automaton 78 = .ok (.iload_n 3, 1) := by decide +kernel
theorem dX1_automaton_79 : decode cX1_automaton 79 = .ok (.ifCond .ge 10, 3) := by decide +kernel
theorem dX1_automaton_82 : decode cX1_automaton 82 = .ok (.aload_n 2, 1) := by decide +kernel
theorem dX1_automaton_83 : decode cX1_automaton 83 = .ok (.getfield 84, 3) := by decide +kernel
theorem dX1_automaton_86 : decode cX1_automaton 86 = .ok (.goto 4, 3) := by decide +kernel
theorem dX1_automaton_89 : decode cX1_automaton 89 = .ok (.iload_n 3, 1) := by decide +kernel
theorem dX1_automaton_90 : decode cX1_automaton 90 = .ok (.ireturn, 1) := by decide +kernel
theorem dX1_use_0 : decode cX1_use 0 = .ok (.aload_n 0, 1) := by decide +kernel
theorem dX1_use_1 : decode cX1_use 1 = .ok (.getfield 57, 3) := by decide +kernel
theorem dX1_use_4 : decode cX1_use 4 = .ok (.aload_n 0, 1) := by decide +kernel
theorem dX1_use_5 : decode cX1_use 5 = .ok (.getfield 10, 3) := by decide +kernel
theorem dX1_use_8 : decode cX1_use 8 = .ok (.invokevirtual 80, 3) := by decide +kernel
theorem dX1_use_11 : decode cX1_use 11 = .ok (.pop, 1) := by decide +kernel
theorem dX1_use_12 : decode cX1_use 12 = .ok (.aload_n 0, 1) := by decide +kernel
theorem dX1_use_13 : decode cX1_use 13 = .ok (.getfield 10, 3) := by decide +kernel
theorem dX1_use_16 : decode cX1_use 16 = .ok (.iconst 0, 1) := by decide +kernel
theorem dX1_use_17 : decode cX1_use 17 = .ok (.putfield 84, 3) := by decide +kernel
theorem dX1_use_20 : decode cX1_use 20 = .ok (.aload_n 0, 1) := by decide +kernel
theorem dX1_use_21 : decode cX1_use 21 = .ok (.getfield 57, 3) := by decide +kernel
theorem dX1_use_24 : decode cX1_use 24 = .ok (.areturn, 1) := by decide +kernel
theorem dX1_undo_0 : decode cX1_undo 0 = .ok (.aload_n 0, 1) := by decide +kernel
theorem dX1_undo_1 : decode cX1_undo 1 = .ok (.getfield 53, 3) := by decide +kernel
theorem dX1_undo_4 : decode cX1_undo 4 = .ok (.invokevirtual 252, 3) := by decide +kernel
theorem dX1_undo_7 : decode cX1_undo 7 = .ok (.ireturn, 1) := by decide +kernel
theorem dX1_letter_0 : decode cX1_letter 0 = .ok (.iload_n 1, 1) := by decide +kernel
theorem dX1_letter_1 : decode cX1_letter 1 = .ok (.iconst (-1), 1) := by decide +kernel
theorem dX1_letter_2 : decode cX1_letter 2 = .ok (.if_icmp .ne 11, 3) := by decide +kernel
theorem dX1_letter_5 : decode cX1_letter 5 = .ok (.aload_n 0, 1) := by decide +kernel
theorem dX1_letter_6 : decode cX1_letter 6 = .ok (.getfield 53, 3) := by decide +kernel
theorem dX1_letter_9 : decode cX1_letter 9 = .ok (.invokevirtual 239, 3) := by decide +kernel
theorem dX1_letter_12 : decode cX1_letter 12 = .ok (.ireturn, 1) := by decide +kernel
theorem dX1_letter_13 : decode cX1_letter 13 = .ok (.iload_n 1, 1) := by decide +kernel
theorem dX1_letter_14 : decode cX1_letter 14 = .ok (.bipush (-2), 2) := by decide +kernel
theorem dX1_letter_16 : decode cX1_letter 16 = .ok (.if_icmp .ne 11, 3) := by decide +kernel
theorem dX1_letter_19 : decode cX1_letter 19 = .ok (.aload_n 0, 1) := by decide +kernel
theorem dX1_letter_20 : decode cX1_letter 20 = .ok (.getfield 53, 3) := by decide +kernel
theorem dX1_letter_23 : decode cX1_letter 23 = .ok (.invokevirtual 255, 3) := by decide +kernel
theorem dX1_letter_26 : decode cX1_letter 26 = .ok (.ireturn, 1) := by decide +kernel
theorem dX1_letter_27 : decode cX1_letter 27 = .ok (.iload_n 1, 1) := by decide +kernel
theorem dX1_letter_28 : decode cX1_letter 28 = .ok (.ifCond .lt 14, 3) := by decide +kernel
theorem dX1_letter_31 : decode cX1_letter 31 = .ok (.iload_n 1, 1) := by decide +kernel
theorem dX1_letter_32 : decode cX1_letter 32 = .ok (.aload_n 0, 1) := by decide +kernel
theorem dX1_letter_33 : decode cX1_letter 33 = .ok (.getfield 53, 3) := by decide +kernel
theorem dX1_letter_36 : decode cX1_letter 36 = .ok (.invokevirtual 239, 3) := by decide +kernel
theorem dX1_letter_39 : decode cX1_letter 39 = .ok (.if_icmp .lt 7, 3) := by decide +kernel
theorem dX1_letter_42 : decode cX1_letter 42 = .ok (.iconst (-1), 1) := by decide +kernel
theorem dX1_letter_43 : decode cX1_letter 43 = .ok (.goto 14, 3) := by decide +kernel
theorem dX1_letter_46 : decode cX1_letter 46 = .ok (.aload_n 0, 1) := by decide +kernel
theorem dX1_letter_47 : decode cX1_letter 47 = .ok (.getfield 53, 3) := by decide +kernel
theorem dX1_letter_50 : decode cX1_letter 50 = .ok (.getfield 258, 3) := by decide +kernel
theorem dX1_letter_53 : decode cX1_letter 53 = .ok (.iload_n 1, 1) := by decide +kernel
theorem dX1_letter_54 : decode cX1_letter 54 = .ok (.invokevirtual 262, 3) := by decide +kernel
theorem dX1_letter_57 : decode cX1_letter 57 = .ok (.ireturn, 1) := by decide +kernel
theorem dX1_suffix_0 : decode cX1_suffix 0 = .ok (.iload_n 1, 1) := by decide +kernel
theorem dX1_suffix_1 : decode cX1_suffix 1 = .ok (.ifCond .lt 23, 3) := by decide +kernel
theorem dX1_suffix_4 : decode cX1_suffix 4 = .ok (.iload_n 1, 1) := by decide +kernel
theorem dX1_suffix_5 : decode cX1_suffix 5 = .ok (.aload_n 0, 1) := by decide +kernel
theorem dX1_suffix_6 : decode cX1_suffix 6 = .ok (.getfield 53, 3) := by decide +kernel
theorem dX1_suffix_9 : decode cX1_suffix 9 = .ok (.invokevirtual 239, 3) := by decide +kernel
theorem dX1_suffix_12 : decode cX1_suffix 12 = .ok (.if_icmp .ge 12, 3) := by decide +kernel
theorem dX1_suffix_15 : decode cX1_suffix 15 = .ok (.iload_n 2, 1) := by decide +kernel
theorem dX1_suffix_16 : decode cX1_suffix 16 = .ok (.ifCond .lt 8, 3) := by decide +kernel
theorem dX1_suffix_19 : decode cX1_suffix 19 = .ok (.iload_n 2, 1) := by decide +kernel
theorem dX1_suffix_20 : decode cX1_suffix 20 = .ok (.iconst 1, 1) := by decide +kernel
theorem dX1_suffix_21 : decode cX1_suffix 21 = .ok (.if_icmp .le 5, 3) := by decide +kernel
theorem dX1_suffix_24 : decode cX1_suffix 24 = .ok (.iconst (-1), 1) := by decide +kernel
theorem dX1_suffix_25 : decode cX1_suffix 25 = .ok (.ireturn, 1) := by decide +kernel
theorem dX1_suffix_26 : decode cX1_suffix 26 = .ok (.aload_n 0, 1) := by decide +kernel
theorem dX1_suffix_27 : decode cX1_suffix 27 = .ok (.getfield 53, 3) := by decide +kernel
theorem dX1_suffix_30 : decode cX1_suffix 30 = .ok (.invokevirtual 268, 3) := by decide +kernel
theorem dX1_suffix_33 : decode cX1_suffix 33 = .ok (.iload_n 2, 1) := by decide +kernel
theorem dX1_suffix_34 : decode cX1_suffix 34 = .ok (.ifCond .ne 15, 3) := by decide +kernel
theorem dX1_suffix_37 : decode cX1_suffix 37 = .ok (.aload_n 0, 1) := by decide +kernel
theorem dX1_suffix_38 : decode cX1_suffix 38 = .ok (.getfield 53, 3) := by decide +kernel
theorem dX1_suffix_41 : decode cX1_suffix 41 = .ok (.getfield 271, 3) := by decide +kernel
theorem dX1_suffix_44 : decode cX1_suffix 44 = .ok (.iload_n 1, 1) := by decide +kernel
theorem dX1_suffix_45 : decode cX1_suffix 45 = .ok (.iaload, 1) := by decide +kernel
theorem dX1_suffix_46 : decode cX1_suffix 46 = .ok (.goto 12, 3) := by decide +kernel
theorem dX1_suffix_49 : decode cX1_suffix 49 = .ok (.aload_n 0, 1) := by decide +kernel
theorem dX1_suffix_50 : decode cX1_suffix 50 = .ok (.getfield 53, 3) := by decide +kernel
theorem dX1_suffix_53 : decode cX1_suffix 53 = .ok (.getfield 275, 3) := by decide +kernel
theorem dX1_suffix_56 : decode cX1_suffix 56 = .ok (.iload_n 1, 1) := by decide +kernel
theorem dX1_suffix_57 : decode cX1_suffix 57 = .ok (.iaload, 1) := by decide +kernel
theorem dX1_suffix_58 : decode cX1_suffix 58 = .ok (.ireturn, 1) := by decide +kernel
theorem dX1_locate_0 : decode cX1_locate 0 = .ok (.iload_n 1, 1) := by decide +kernel
theorem dX1_locate_1 : decode cX1_locate 1 = .ok (.ifCond .lt 8, 3) := by decide +kernel
theorem dX1_locate_4 : decode cX1_locate 4 = .ok (.iload_n 1, 1) := by decide +kernel
theorem dX1_locate_5 : decode cX1_locate 5 = .ok (.iconst 1, 1) := by decide +kernel
theorem dX1_locate_6 : decode cX1_locate 6 = .ok (.if_icmp .le 5, 3) := by decide +kernel
theorem dX1_locate_9 : decode cX1_locate 9 = .ok (.iconst (-1), 1) := by decide +kernel
theorem dX1_locate_10 : decode cX1_locate 10 = .ok (.ireturn, 1) := by decide +kernel
theorem dX1_locate_11 : decode cX1_locate 11 = .ok (.aload_n 0, 1) := by decide +kernel
theorem dX1_locate_12 : decode cX1_locate 12 = .ok (.invokevirtual 95, 3) := by decide +kernel
theorem dX1_locate_15 : decode cX1_locate 15 = .ok (.astore_n 2, 1) := by decide +kernel
theorem dX1_locate_16 : decode cX1_locate 16 = .ok (.aload_n 0, 1) := by decide +kernel
theorem dX1_locate_17 : decode cX1_locate 17 = .ok (.getfield 53, 3) := by decide +kernel
theorem dX1_locate_20 : decode cX1_locate 20 = .ok (.aload_n 2, 1) := by decide +kernel
theorem dX1_locate_21 : decode cX1_locate 21 = .ok (.iconst 0, 1) := by decide +kernel
theorem dX1_locate_22 : decode cX1_locate 22 = .ok (.invokevirtual 278, 3) := by decide +kernel
theorem dX1_locate_25 : decode cX1_locate 25 = .ok (.istore_n 3, 1) := by decide +kernel
theorem dX1_locate_26 : decode cX1_locate 26 = .ok (.aload_n 0, 1) := by decide +kernel
theorem dX1_locate_27 : decode cX1_locate 27 = .ok (.getfield 53, 3) := by decide +kernel
theorem dX1_locate_30 : decode cX1_locate 30 = .ok (.aload_n 2, 1) := by decide +kernel
theorem dX1_locate_31 : decode cX1_locate 31 = .ok (.iconst 1, 1) := by decide +kernel
theorem dX1_locate_32 : decode cX1_locate 32 = .ok (.invokevirtual 278, 3) := by decide +kernel
theorem dX1_locate_35 : decode cX1_locate 35 = .ok (.iload_n 3, 1) := by decide +kernel
theorem dX1_locate_36 : decode cX1_locate 36 = .ok (.isub, 1) := by decide +kernel
theorem dX1_locate_37 : decode cX1_locate 37 = .ok (.istore 4, 2) := by decide +kernel
theorem dX1_locate_39 : decode cX1_locate 39 = .ok (.iload_n 1, 1) := by decide +kernel
theorem dX1_locate_40 : decode cX1_locate 40 = .ok (.ifCond .ne 8, 3) := by decide +kernel
theorem dX1_locate_43 : decode cX1_locate 43 = .ok (.iload 4, 2) := by decide +kernel
theorem dX1_locate_45 : decode cX1_locate 45 = .ok (.goto 13, 3) := by decide +kernel
theorem dX1_locate_48 : decode cX1_locate 48 = .ok (.iload 4, 2) := by decide +kernel
theorem dX1_locate_50 : decode cX1_locate 50 = .ok (.ifCond .le 7, 3) := by decide +kernel
theorem dX1_locate_53 : decode cX1_locate 53 = .ok (.iload_n 3, 1) := by decide +kernel
theorem dX1_locate_54 : decode cX1_locate 54 = .ok (.goto 4, 3) := by decide +kernel
theorem dX1_locate_57 : decode cX1_locate 57 = .ok (.iconst (-1), 1) := by decide +kernel
theorem dX1_locate_58 : decode cX1_locate 58 = .ok (.ireturn, 1) := by decide +kernel
theorem dX1_view_0 : decode cX1_view 0 = .ok (.aload_n 0, 1) := by decide +kernel
theorem dX1_view_1 : decode cX1_view 1 = .ok (.iload_n 1, 1) := by decide +kernel
theorem dX1_view_2 : decode cX1_view 2 = .ok (.invokevirtual 91, 3) := by decide +kernel
theorem dX1_view_5 : decode cX1_view 5 = .ok (.astore_n 3, 1) := by decide +kernel
theorem dX1_view_6 : decode cX1_view 6 = .ok (.iload_n 2, 1) := by decide +kernel
theorem dX1_view_7 : decode cX1_view 7 = .ok (.ifCond .lt 12, 3) := by decide +kernel
theorem dX1_view_10 : decode cX1_view 10 = .ok (.iload_n 2, 1) := by decide +kernel
theorem dX1_view_11 : decode cX1_view 11 = .ok (.iconst 4, 1) := by decide +kernel
theorem dX1_view_12 : decode cX1_view 12 = .ok (.if_icmp .ge 7, 3) := by decide +kernel
theorem dX1_view_15 : decode cX1_view 15 = .ok (.iconst 1, 1) := by decide +kernel
theorem dX1_view_16 : decode cX1_view 16 = .ok (.goto 4, 3) := by decide +kernel
theorem dX1_view_19 : decode cX1_view 19 = .ok (.iconst 0, 1) := by decide +kernel
theorem dX1_view_20 : decode cX1_view 20 = .ok (.invokestatic 76, 3) := by decide +kernel
theorem dX1_view_23 : decode cX1_view 23 = .ok (.new 7, 3) := by decide +kernel
theorem dX1_view_26 : decode cX1_view 26 = .ok (.dup, 1) := by decide +kernel
theorem dX1_view_27 : decode cX1_view 27 = .ok (.invokespecial 9, 3) := by decide +kernel
theorem dX1_view_30 : decode cX1_view 30 = .ok (.aload_n 0, 1) := by decide +kernel
theorem dX1_view_31 : decode cX1_view 31 = .ok (.invokevirtual 95, 3) := by decide +kernel
theorem dX1_view_34 : decode cX1_view 34 = .ok (.invokevirtual 80, 3) := by decide +kernel
theorem dX1_view_37 : decode cX1_view 37 = .ok (.astore 4, 2) := by decide +kernel
theorem dX1_view_39 : decode cX1_view 39 = .ok (.aload_n 0, 1) := by decide +kernel
theorem dX1_view_40 : decode cX1_view 40 = .ok (.getfield 22, 3) := by decide +kernel
theorem dX1_view_43 : decode cX1_view 43 = .ok (.bipush 12, 2) := by decide +kernel
theorem dX1_view_45 : decode cX1_view 45 = .ok (.if_icmp .ne 5, 3) := by decide +kernel
theorem dX1_view_48 : decode cX1_view 48 = .ok (.iconst (-1), 1) := by decide +kernel
theorem dX1_view_49 : decode cX1_view 49 = .ok (.ireturn, 1) := by decide +kernel
theorem dX1_view_50 : decode cX1_view 50 = .ok (.aload_n 3, 1) := by decide +kernel
theorem dX1_view_51 : decode cX1_view 51 = .ok (.invokevirtual 99, 3) := by decide +kernel
theorem dX1_view_54 : decode cX1_view 54 = .ok (.astore 5, 2) := by decide +kernel
theorem dX1_view_56 : decode cX1_view 56 = .ok (.iload_n 2, 1) := by decide +kernel
theorem dX1_view_57 : decode cX1_view 57 = .ok (.ifCond .ne 10, 3) := by decide +kernel
theorem dX1_view_60 : decode cX1_view 60 = .ok (.aload 5, 2) := by decide +kernel
theorem dX1_view_62 : decode cX1_view 62 = .ok (.aload 4, 2) := by decide +kernel
theorem dX1_view_64 : decode cX1_view 64 = .ok (.invokevirtual 102, 3) := by decide +kernel
theorem dX1_view_67 : decode cX1_view 67 = .ok (.iload_n 2, 1) := by decide +kernel
theorem dX1_view_68 : decode cX1_view 68 = .ok (.iconst 1, 1) := by decide +kernel
theorem dX1_view_69 : decode cX1_view 69 = .ok (.if_icmp .ne 10, 3) := by decide +kernel
theorem dX1_view_72 : decode cX1_view 72 = .ok (.aload 5, 2) := by decide +kernel
theorem dX1_view_74 : decode cX1_view 74 = .ok (.aload 4, 2) := by decide +kernel
theorem dX1_view_76 : decode cX1_view 76 = .ok (.invokevirtual 105, 3) := by decide +kernel
theorem dX1_view_79 : decode cX1_view 79 = .ok (.iload_n 2, 1) := by decide +kernel
theorem dX1_view_80 : decode cX1_view 80 = .ok (.iconst 2, 1) := by decide +kernel
theorem dX1_view_81 : decode cX1_view 81 = .ok (.if_icmp .ne 10, 3) := by decide +kernel
theorem dX1_view_84 : decode cX1_view 84 = .ok (.aload 5, 2) := by decide +kernel
theorem dX1_view_86 : decode cX1_view 86 = .ok (.aload 4, 2) := by decide +kernel
theorem dX1_view_88 : decode cX1_view 88 = .ok (.invokevirtual 108, 3) := by decide +kernel
theorem dX1_view_91 : decode cX1_view 91 = .ok (.iload_n 2, 1) := by decide +kernel
theorem dX1_view_92 : decode cX1_view 92 = .ok (.iconst 3, 1) := by decide +kernel
theorem dX1_view_93 : decode cX1_view 93 = .ok (.if_icmp .ne 21, 3) := by decide +kernel
theorem dX1_view_96 : decode cX1_view 96 = .ok (.aload 5, 2) := by decide +kernel
theorem dX1_view_98 : decode cX1_view 98 = .ok (.aload 5, 2) := by decide +kernel
theorem dX1_view_100 : decode cX1_view 100 = .ok (.getfield 111, 3) := by decide +kernel
theorem dX1_view_103 : decode cX1_view 103 = .ok (.ifCond .ne 7, 3) := by decide +kernel
theorem dX1_view_106 : decode cX1_view 106 = .ok (.iconst 1, 1) := by decide +kernel
theorem dX1_view_107 : decode cX1_view 107 = .ok (.goto 4, 3) := by decide +kernel
theorem dX1_view_110 : decode cX1_view 110 = .ok (.iconst 0, 1) := by decide +kernel
theorem dX1_view_111 : decode cX1_view 111 = .ok (.putfield 111, 3) := by decide +kernel
theorem dX1_view_114 : decode cX1_view 114 = .ok (.aload_n 0, 1) := by decide +kernel
theorem dX1_view_115 : decode cX1_view 115 = .ok (.getfield 18, 3) := by decide +kernel
theorem dX1_view_118 : decode cX1_view 118 = .ok (.aload_n 0, 1) := by decide +kernel
theorem dX1_view_119 : decode cX1_view 119 = .ok (.getfield 22, 3) := by decide +kernel
theorem dX1_view_122 : decode cX1_view 122 = .ok (.aload 5, 2) := by decide +kernel
theorem dX1_view_124 : decode cX1_view 124 = .ok (.aastore, 1) := by decide +kernel
theorem dX1_view_125 : decode cX1_view 125 = .ok (.aload_n 0, 1) := by decide +kernel
theorem dX1_view_126 : decode cX1_view 126 = .ok (.dup, 1) := by decide +kernel
theorem dX1_view_127 : decode cX1_view 127 = .ok (.getfield 22, 3) := by decide +kernel
theorem dX1_view_130 : decode cX1_view 130 = .ok (.iconst 1, 1) := by decide +kernel
theorem dX1_view_131 : decode cX1_view 131 = .ok (.iadd, 1) := by decide +kernel
theorem dX1_view_132 : decode cX1_view 132 = .ok (.putfield 22, 3) := by decide +kernel
theorem dX1_view_135 : decode cX1_view 135 = .ok (.aload_n 0, 1) := by decide +kernel
theorem dX1_view_136 : decode cX1_view 136 = .ok (.getfield 22, 3) := by decide +kernel
theorem dX1_view_139 : decode cX1_view 139 = .ok (.iconst 1, 1) := by decide +kernel
theorem dX1_view_140 : decode cX1_view 140 = .ok (.isub, 1) := by decide +kernel
theorem dX1_view_141 : decode cX1_view 141 = .ok (.ireturn, 1) := by decide +kernel
theorem dX1_of_0 : decode cX1_of 0 = .ok (.iload_n 1, 1) := by decide +kernel
theorem dX1_of_1 : decode cX1_of 1 = .ok (.ifCond .lt 15, 3) := by decide +kernel
theorem dX1_of_4 : decode cX1_of 4 = .ok (.iload_n 1, 1) := by decide +kernel
theorem dX1_of_5 : decode cX1_of 5 = .ok (.aload_n 0, 1) := by decide +kernel
theorem dX1_of_6 : decode cX1_of 6 = .ok (.getfield 22, 3) := by decide +kernel
theorem dX1_of_9 : decode cX1_of 9 = .ok (.if_icmp .ge 7, 3) := by decide +kernel
theorem dX1_of_12 : decode cX1_of 12 = .ok (.iconst 1, 1) := by decide +kernel
theorem dX1_of_13 : decode cX1_of 13 = .ok (.goto 4, 3) := by decide +kernel
theorem dX1_of_16 : decode cX1_of 16 = .ok (.iconst 0, 1) := by decide +kernel
theorem dX1_of_17 : decode cX1_of 17 = .ok (.invokestatic 76, 3) := by decide +kernel
theorem dX1_of_20 : decode cX1_of 20 = .ok (.aload_n 0, 1) := by decide +kernel
theorem dX1_of_21 : decode cX1_of 21 = .ok (.getfield 18, 3) := by decide +kernel
theorem dX1_of_24 : decode cX1_of 24 = .ok (.iload_n 1, 1) := by decide +kernel
theorem dX1_of_25 : decode cX1_of 25 = .ok (.aaload, 1) := by decide +kernel
theorem dX1_of_26 : decode cX1_of 26 = .ok (.areturn, 1) := by decide +kernel
theorem dX1_need_0 : decode cX1_need 0 = .ok (.iload_n 0, 1) := by decide +kernel
theorem dX1_need_1 : decode cX1_need 1 = .ok (.ifCond .ne 13, 3) := by decide +kernel
theorem dX1_need_4 : decode cX1_need 4 = .ok (.new 69, 3) := by decide +kernel
theorem dX1_need_7 : decode cX1_need 7 = .ok (.dup, 1) := by decide +kernel
theorem dX1_need_8 : decode cX1_need 8 = .ok (.ldc 71, 2) := by decide +kernel
theorem dX1_need_10 : decode cX1_need 10 = .ok (.invokespecial 73, 3) := by decide +kernel
theorem dX1_need_13 : decode cX1_need 13 = .ok (.athrow, 1) := by decide +kernel
theorem dX1_need_14 : decode cX1_need 14 = .ok (.return_, 1) := by decide +kernel
theorem dX1_put_0 : decode cX1_put 0 = .ok (.aload_n 0, 1) := by decide +kernel
theorem dX1_put_1 : decode cX1_put 1 = .ok (.iload_n 1, 1) := by decide +kernel
theorem dX1_put_2 : decode cX1_put 2 = .ok (.invokevirtual 91, 3) := by decide +kernel
theorem dX1_put_5 : decode cX1_put 5 = .ok (.astore_n 3, 1) := by decide +kernel
theorem dX1_put_6 : decode cX1_put 6 = .ok (.aload_n 0, 1) := by decide +kernel
theorem dX1_put_7 : decode cX1_put 7 = .ok (.invokevirtual 95, 3) := by decide +kernel
theorem dX1_put_10 : decode cX1_put 10 = .ok (.astore 4, 2) := by decide +kernel
theorem dX1_put_12 : decode cX1_put 12 = .ok (.iload_n 2, 1) := by decide +kernel
theorem dX1_put_13 : decode cX1_put 13 = .ok (.ifCond .lt 12, 3) := by decide +kernel
theorem dX1_put_16 : decode cX1_put 16 = .ok (.aload_n 3, 1) := by decide +kernel
theorem dX1_put_17 : decode cX1_put 17 = .ok (.aload 4, 2) := by decide +kernel
theorem dX1_put_19 : decode cX1_put 19 = .ok (.invokevirtual 115, 3) := by decide +kernel
theorem dX1_put_22 : decode cX1_put 22 = .ok (.ifCond .ne 13, 3) := by decide +kernel
theorem dX1_put_25 : decode cX1_put 25 = .ok (.new 119, 3) := by decide +kernel
theorem dX1_put_28 : decode cX1_put 28 = .ok (.dup, 1) := by decide +kernel
theorem dX1_put_29 : decode cX1_put 29 = .ok (.ldc 121, 2) := by decide +kernel
theorem dX1_put_31 : decode cX1_put 31 = .ok (.invokespecial 123, 3) := by decide +kernel
theorem dX1_put_34 : decode cX1_put 34 = .ok (.athrow, 1) := by decide +kernel
theorem dX1_put_35 : decode cX1_put 35 = .ok (.aload_n 3, 1) := by decide +kernel
theorem dX1_put_36 : decode cX1_put 36 = .ok (.getfield 124, 3) := by decide +kernel
theorem dX1_put_39 : decode cX1_put 39 = .ok (.aload 4, 2) := by decide +kernel
theorem dX1_put_41 : decode cX1_put 41 = .ok (.invokevirtual 128, 3) := by decide +kernel
theorem dX1_put_44 : decode cX1_put 44 = .ok (.astore 5, 2) := by decide +kernel
theorem dX1_put_46 : decode cX1_put 46 = .ok (.aload 5, 2) := by decide +kernel
theorem dX1_put_48 : decode cX1_put 48 = .ok (.ifnull 19, 3) := by decide +kernel
theorem dX1_put_51 : decode cX1_put 51 = .ok (.aload 5, 2) := by decide +kernel
theorem dX1_put_53 : decode cX1_put 53 = .ok (.getfield 134, 3) := by decide +kernel
theorem dX1_put_56 : decode cX1_put 56 = .ok (.istore 6, 2) := by decide +kernel
theorem dX1_put_58 : decode cX1_put 58 = .ok (.aload 5, 2) := by decide +kernel
theorem dX1_put_60 : decode cX1_put 60 = .ok (.iload_n 2, 1) := by decide +kernel
theorem dX1_put_61 : decode cX1_put 61 = .ok (.putfield 134, 3) := by decide +kernel
theorem dX1_put_64 : decode cX1_put 64 = .ok (.iload 6, 2) := by decide +kernel
theorem dX1_put_66 : decode cX1_put 66 = .ok (.ireturn, 1) := by decide +kernel
theorem dX1_put_67 : decode cX1_put 67 = .ok (.aload_n 3, 1) := by decide +kernel
theorem dX1_put_68 : decode cX1_put 68 = .ok (.getfield 124, 3) := by decide +kernel
theorem dX1_put_71 : decode cX1_put 71 = .ok (.getfield 139, 3) := by decide +kernel
theorem dX1_put_74 : decode cX1_put 74 = .ok (.bipush 64, 2) := by decide +kernel
theorem dX1_put_76 : decode cX1_put 76 = .ok (.if_icmp .ne 13, 3) := by decide +kernel
theorem dX1_put_79 : decode cX1_put 79 = .ok (.new 142, 3) := by decide +kernel
theorem dX1_put_82 : decode cX1_put 82 = .ok (.dup, 1) := by decide +kernel
theorem dX1_put_83 : decode cX1_put 83 = .ok (.ldc 144, 2) := by decide +kernel
theorem dX1_put_85 : decode cX1_put 85 = .ok (.invokespecial 146, 3) := by decide +kernel
theorem dX1_put_88 : decode cX1_put 88 = .ok (.athrow, 1) := by decide +kernel
theorem dX1_put_89 : decode cX1_put 89 = .ok (.aload_n 3, 1) := by decide +kernel
theorem dX1_put_90 : decode cX1_put 90 = .ok (.getfield 124, 3) := by decide +kernel
theorem dX1_put_93 : decode cX1_put 93 = .ok (.new 135, 3) := by decide +kernel
theorem dX1_put_96 : decode cX1_put 96 = .ok (.dup, 1) := by decide +kernel
theorem dX1_put_97 : decode cX1_put 97 = .ok (.aload 4, 2) := by decide +kernel
theorem dX1_put_99 : decode cX1_put 99 = .ok (.iload_n 2, 1) := by decide +kernel
theorem dX1_put_100 : decode cX1_put 100 = .ok (.invokespecial 147, 3) := by decide +kernel
theorem dX1_put_103 : decode cX1_put 103 = .ok (.invokevirtual 150, 3) := by decide +kernel
theorem dX1_put_106 : decode cX1_put 106 = .ok (.iconst (-1), 1) := by decide +kernel
theorem dX1_put_107 : decode cX1_put 107 = .ok (.ireturn, 1) := by decide +kernel
theorem dX1_get_0 : decode cX1_get 0 = .ok (.aload_n 0, 1) := by decide +kernel
theorem dX1_get_1 : decode cX1_get 1 = .ok (.aload_n 0, 1) := by decide +kernel
theorem dX1_get_2 : decode cX1_get 2 = .ok (.iload_n 1, 1) := by decide +kernel
theorem dX1_get_3 : decode cX1_get 3 = .ok (.invokevirtual 91, 3) := by decide +kernel
theorem dX1_get_6 : decode cX1_get 6 = .ok (.invokevirtual 154, 3) := by decide +kernel
theorem dX1_get_9 : decode cX1_get 9 = .ok (.astore_n 2, 1) := by decide +kernel
theorem dX1_get_10 : decode cX1_get 10 = .ok (.aload_n 2, 1) := by decide +kernel
theorem dX1_get_11 : decode cX1_get 11 = .ok (.ifnonnull 7, 3) := by decide +kernel
theorem dX1_get_14 : decode cX1_get 14 = .ok (.iconst (-1), 1) := by decide +kernel
theorem dX1_get_15 : decode cX1_get 15 = .ok (.goto 7, 3) := by decide +kernel
theorem dX1_get_18 : decode cX1_get 18 = .ok (.aload_n 2, 1) := by decide +kernel
theorem dX1_get_19 : decode cX1_get 19 = .ok (.getfield 134, 3) := by decide +kernel
theorem dX1_get_22 : decode cX1_get 22 = .ok (.ireturn, 1) := by decide +kernel
theorem dX1_entry_0 : decode cX1_entry 0 = .ok (.aload_n 0, 1) := by decide +kernel
theorem dX1_entry_1 : decode cX1_entry 1 = .ok (.invokevirtual 95, 3) := by decide +kernel
theorem dX1_entry_4 : decode cX1_entry 4 = .ok (.astore_n 2, 1) := by decide +kernel
theorem dX1_entry_5 : decode cX1_entry 5 = .ok (.aload_n 1, 1) := by decide +kernel
theorem dX1_entry_6 : decode cX1_entry 6 = .ok (.aload_n 2, 1) := by decide +kernel
theorem dX1_entry_7 : decode cX1_entry 7 = .ok (.invokevirtual 115, 3) := by decide +kernel
theorem dX1_entry_10 : decode cX1_entry 10 = .ok (.ifCond .eq 14, 3) := by decide +kernel
theorem dX1_entry_13 : decode cX1_entry 13 = .ok (.aload_n 1, 1) := by decide +kernel
theorem dX1_entry_14 : decode cX1_entry 14 = .ok (.getfield 124, 3) := by decide +kernel
theorem dX1_entry_17 : decode cX1_entry 17 = .ok (.aload_n 2, 1) := by decide +kernel
theorem dX1_entry_18 : decode cX1_entry 18 = .ok (.invokevirtual 128, 3) := by decide +kernel
theorem dX1_entry_21 : decode cX1_entry 21 = .ok (.goto 4, 3) := by decide +kernel
theorem dX1_entry_24 : decode cX1_entry 24 = .ok (.aconst_null, 1) := by decide +kernel
theorem dX1_entry_25 : decode cX1_entry 25 = .ok (.areturn, 1) := by decide +kernel
theorem dX1_remove_0 : decode cX1_remove 0 = .ok (.aload_n 0, 1) := by decide +kernel
theorem dX1_remove_1 : decode cX1_remove 1 = .ok (.iload_n 1, 1) := by decide +kernel
theorem dX1_remove_2 : decode cX1_remove 2 = .ok (.invokevirtual 91, 3) := by decide +kernel
theorem dX1_remove_5 : decode cX1_remove 5 = .ok (.astore_n 2, 1) := by decide +kernel
theorem dX1_remove_6 : decode cX1_remove 6 = .ok (.aload_n 0, 1) := by decide +kernel
theorem dX1_remove_7 : decode cX1_remove 7 = .ok (.aload_n 2, 1) := by decide +kernel
theorem dX1_remove_8 : decode cX1_remove 8 = .ok (.invokevirtual 154, 3) := by decide +kernel
theorem dX1_remove_11 : decode cX1_remove 11 = .ok (.astore_n 3, 1) := by decide +kernel
theorem dX1_remove_12 : decode cX1_remove 12 = .ok (.aload_n 3, 1) := by decide +kernel
theorem dX1_remove_13 : decode cX1_remove 13 = .ok (.ifnonnull 5, 3) := by decide +kernel
theorem dX1_remove_16 : decode cX1_remove 16 = .ok (.iconst (-1), 1) := by decide +kernel
theorem dX1_remove_17 : decode cX1_remove 17 = .ok (.ireturn, 1) := by decide +kernel
theorem dX1_remove_18 : decode cX1_remove 18 = .ok (.aload_n 2, 1) := by decide +kernel
theorem dX1_remove_19 : decode cX1_remove 19 = .ok (.getfield 124, 3) := by decide +kernel
theorem dX1_remove_22 : decode cX1_remove 22 = .ok (.aload_n 3, 1) := by decide +kernel
theorem dX1_remove_23 : decode cX1_remove 23 = .ok (.invokevirtual 158, 3) := by decide +kernel
theorem dX1_remove_26 : decode cX1_remove 26 = .ok (.aload_n 3, 1) := by decide +kernel
theorem dX1_remove_27 : decode cX1_remove 27 = .ok (.getfield 134, 3) := by decide +kernel
theorem dX1_remove_30 : decode cX1_remove 30 = .ok (.ireturn, 1) := by decide +kernel
theorem dX1_find_0 : decode cX1_find 0 = .ok (.aload_n 0, 1) := by decide +kernel
theorem dX1_find_1 : decode cX1_find 1 = .ok (.iload_n 1, 1) := by decide +kernel
theorem dX1_find_2 : decode cX1_find 2 = .ok (.invokevirtual 91, 3) := by decide +kernel
theorem dX1_find_5 : decode cX1_find 5 = .ok (.astore_n 3, 1) := by decide +kernel
theorem dX1_find_6 : decode cX1_find 6 = .ok (.iload_n 2, 1) := by decide +kernel
theorem dX1_find_7 : decode cX1_find 7 = .ok (.ifCond .lt 13, 3) := by decide +kernel
theorem dX1_find_10 : decode cX1_find 10 = .ok (.iload_n 2, 1) := by decide +kernel
theorem dX1_find_11 : decode cX1_find 11 = .ok (.bipush 7, 2) := by decide +kernel
theorem dX1_find_13 : decode cX1_find 13 = .ok (.if_icmp .ge 7, 3) := by decide +kernel
theorem dX1_find_16 : decode cX1_find 16 = .ok (.iconst 1, 1) := by decide +kernel
theorem dX1_find_17 : decode cX1_find 17 = .ok (.goto 4, 3) := by decide +kernel
theorem dX1_find_20 : decode cX1_find 20 = .ok (.iconst 0, 1) := by decide +kernel
theorem dX1_find_21 : decode cX1_find 21 = .ok (.invokestatic 76, 3) := by decide +kernel
theorem dX1_find_24 : decode cX1_find 24 = .ok (.aload_n 0, 1) := by decide +kernel
theorem dX1_find_25 : decode cX1_find 25 = .ok (.invokevirtual 95, 3) := by decide +kernel
theorem dX1_find_28 : decode cX1_find 28 = .ok (.astore 4, 2) := by decide +kernel
theorem dX1_find_30 : decode cX1_find 30 = .ok (.iload_n 2, 1) := by decide +kernel
theorem dX1_find_31 : decode cX1_find 31 = .ok (.tableswitch 101 0 5 #[37, 37, 58, 58, 79, 90], 37) := by decide +kernel
theorem dX1_find_68 : decode cX1_find 68 = .ok (.aload_n 0, 1) := by decide +kernel
theorem dX1_find_69 : decode cX1_find 69 = .ok (.aload_n 3, 1) := by decide +kernel
theorem dX1_find_70 : decode cX1_find 70 = .ok (.aload 4, 2) := by decide +kernel
theorem dX1_find_72 : decode cX1_find 72 = .ok (.iload_n 2, 1) := by decide +kernel
theorem dX1_find_73 : decode cX1_find 73 = .ok (.iconst 1, 1) := by decide +kernel
theorem dX1_find_74 : decode cX1_find 74 = .ok (.if_icmp .ne 7, 3) := by decide +kernel
theorem dX1_find_77 : decode cX1_find 77 = .ok (.iconst 1, 1) := by decide +kernel
theorem dX1_find_78 : decode cX1_find 78 = .ok (.goto 4, 3) := by decide +kernel
theorem dX1_find_81 : decode cX1_find 81 = .ok (.iconst 0, 1) := by decide +kernel
theorem dX1_find_82 : decode cX1_find 82 = .ok (.invokevirtual 170, 3) := by decide +kernel
theorem dX1_find_85 : decode cX1_find 85 = .ok (.invokevirtual 174, 3) := by decide +kernel
theorem dX1_find_88 : decode cX1_find 88 = .ok (.ireturn, 1) := by decide +kernel
theorem dX1_find_89 : decode cX1_find 89 = .ok (.aload_n 0, 1) := by decide +kernel
theorem dX1_find_90 : decode cX1_find 90 = .ok (.aload_n 3, 1) := by decide +kernel
theorem dX1_find_91 : decode cX1_find 91 = .ok (.aload 4, 2) := by decide +kernel
theorem dX1_find_93 : decode cX1_find 93 = .ok (.iload_n 2, 1) := by decide +kernel
theorem dX1_find_94 : decode cX1_find 94 = .ok (.iconst 3, 1) := by decide +kernel
theorem dX1_find_95 : decode cX1_find 95 = .ok (.if_icmp .ne 7, 3) := by decide +kernel
theorem dX1_find_98 : decode cX1_find 98 = .ok (.iconst 1, 1) := by decide +kernel
theorem dX1_find_99 : decode cX1_find 99 = .ok (.goto 4, 3) := by decide +kernel
theorem dX1_find_102 : decode cX1_find 102 = .ok (.iconst 0, 1) := by decide +kernel
theorem dX1_find_103 : decode cX1_find 103 = .ok (.invokevirtual 178, 3) := by decide +kernel
theorem dX1_find_106 : decode cX1_find 106 = .ok (.invokevirtual 174, 3) := by decide +kernel
theorem dX1_find_109 : decode cX1_find 109 = .ok (.ireturn, 1) := by decide +kernel
theorem dX1_find_110 : decode cX1_find 110 = .ok (.aload_n 0, 1) := by decide +kernel
theorem dX1_find_111 : decode cX1_find 111 = .ok (.aload_n 3, 1) := by decide +kernel
theorem dX1_find_112 : decode cX1_find 112 = .ok (.aconst_null, 1) := by decide +kernel
theorem dX1_find_113 : decode cX1_find 113 = .ok (.iconst 0, 1) := by decide +kernel
theorem dX1_find_114 : decode cX1_find 114 = .ok (.invokevirtual 178, 3) := by decide +kernel
theorem dX1_find_117 : decode cX1_find 117 = .ok (.invokevirtual 174, 3) := by decide +kernel
theorem dX1_find_120 : decode cX1_find 120 = .ok (.ireturn, 1) := by decide +kernel
theorem dX1_find_121 : decode cX1_find 121 = .ok (.aload_n 0, 1) := by decide +kernel
theorem dX1_find_122 : decode cX1_find 122 = .ok (.aload_n 3, 1) := by decide +kernel
theorem dX1_find_123 : decode cX1_find 123 = .ok (.aconst_null, 1) := by decide +kernel
theorem dX1_find_124 : decode cX1_find 124 = .ok (.iconst 0, 1) := by decide +kernel
theorem dX1_find_125 : decode cX1_find 125 = .ok (.invokevirtual 170, 3) := by decide +kernel
theorem dX1_find_128 : decode cX1_find 128 = .ok (.invokevirtual 174, 3) := by decide +kernel
theorem dX1_find_131 : decode cX1_find 131 = .ok (.ireturn, 1) := by decide +kernel
theorem dX1_find_132 : decode cX1_find 132 = .ok (.aload_n 0, 1) := by decide +kernel
theorem dX1_find_133 : decode cX1_find 133 = .ok (.aload_n 3, 1) := by decide +kernel
theorem dX1_find_134 : decode cX1_find 134 = .ok (.aload 4, 2) := by decide +kernel
theorem dX1_find_136 : decode cX1_find 136 = .ok (.invokestatic 181, 3) := by decide +kernel
theorem dX1_find_139 : decode cX1_find 139 = .ok (.invokevirtual 174, 3) := by decide +kernel
theorem dX1_find_142 : decode cX1_find 142 = .ok (.ireturn, 1) := by decide +kernel
theorem dX1_tell_0 : decode cX1_tell 0 = .ok (.aload_n 1, 1) := by decide +kernel
theorem dX1_tell_1 : decode cX1_tell 1 = .ok (.ifnonnull 13, 3) := by decide +kernel
theorem dX1_tell_4 : decode cX1_tell 4 = .ok (.new 165, 3) := by decide +kernel
theorem dX1_tell_7 : decode cX1_tell 7 = .ok (.dup, 1) := by decide +kernel
theorem dX1_tell_8 : decode cX1_tell 8 = .ok (.ldc 167, 2) := by decide +kernel
theorem dX1_tell_10 : decode cX1_tell 10 = .ok (.invokespecial 169, 3) := by decide +kernel
theorem dX1_tell_13 : decode cX1_tell 13 = .ok (.athrow, 1) := by decide +kernel
theorem dX1_tell_14 : decode cX1_tell 14 = .ok (.aload_n 0, 1) := by decide +kernel
theorem dX1_tell_15 : decode cX1_tell 15 = .ok (.getfield 40, 3) := by decide +kernel
theorem dX1_tell_18 : decode cX1_tell 18 = .ok (.aload_n 1, 1) := by decide +kernel
theorem dX1_tell_19 : decode cX1_tell 19 = .ok (.invokevirtual 80, 3) := by decide +kernel
theorem dX1_tell_22 : decode cX1_tell 22 = .ok (.pop, 1) := by decide +kernel
theorem dX1_tell_23 : decode cX1_tell 23 = .ok (.aload_n 1, 1) := by decide +kernel
theorem dX1_tell_24 : decode cX1_tell 24 = .ok (.getfield 134, 3) := by decide +kernel
theorem dX1_tell_27 : decode cX1_tell 27 = .ok (.ireturn, 1) := by decide +kernel
theorem dX1_beginning_0 : decode cX1_beginning 0 = .ok (.new 7, 3) := by decide +kernel
theorem dX1_beginning_3 : decode cX1_beginning 3 = .ok (.dup, 1) := by decide +kernel
theorem dX1_beginning_4 : decode cX1_beginning 4 = .ok (.invokespecial 9, 3) := by decide +kernel
theorem dX1_beginning_7 : decode cX1_beginning 7 = .ok (.aload_n 1, 1) := by decide +kernel
theorem dX1_beginning_8 : decode cX1_beginning 8 = .ok (.invokevirtual 80, 3) := by decide +kernel
theorem dX1_beginning_11 : decode cX1_beginning 11 = .ok (.astore_n 2, 1) := by decide +kernel
theorem dX1_beginning_12 : decode cX1_beginning 12 = .ok (.aload_n 0, 1) := by decide +kernel
theorem dX1_beginning_13 : decode cX1_beginning 13 = .ok (.aload_n 2, 1) := by decide +kernel
theorem dX1_beginning_14 : decode cX1_beginning 14 = .ok (.invokevirtual 115, 3) := by decide +kernel
theorem dX1_beginning_17 : decode cX1_beginning 17 = .ok (.ifCond .eq 14, 3) := by decide +kernel
theorem dX1_beginning_20 : decode cX1_beginning 20 = .ok (.aload_n 0, 1) := by decide +kernel
theorem dX1_beginning_21 : decode cX1_beginning 21 = .ok (.getfield 124, 3) := by decide +kernel
theorem dX1_beginning_24 : decode cX1_beginning 24 = .ok (.aload_n 2, 1) := by decide +kernel
theorem dX1_beginning_25 : decode cX1_beginning 25 = .ok (.invokevirtual 128, 3) := by decide +kernel
theorem dX1_beginning_28 : decode cX1_beginning 28 = .ok (.goto 4, 3) := by decide +kernel
theorem dX1_beginning_31 : decode cX1_beginning 31 = .ok (.aconst_null, 1) := by decide +kernel
theorem dX1_beginning_32 : decode cX1_beginning 32 = .ok (.astore_n 3, 1) := by decide +kernel
theorem dX1_beginning_33 : decode cX1_beginning 33 = .ok (.aload_n 3, 1) := by decide +kernel
theorem dX1_beginning_34 : decode cX1_beginning 34 = .ok (.ifnonnull 44, 3) := by decide +kernel
theorem dX1_beginning_37 : decode cX1_beginning 37 = .ok (.aload_n 2, 1) := by decide +kernel
theorem dX1_beginning_38 : decode cX1_beginning 38 = .ok (.getfield 84, 3) := by decide +kernel
theorem dX1_beginning_41 : decode cX1_beginning 41 = .ok (.ifCond .le 37, 3) := by decide +kernel
theorem dX1_beginning_44 : decode cX1_beginning 44 = .ok (.aload_n 2, 1) := by decide +kernel
theorem dX1_beginning_45 : decode cX1_beginning 45 = .ok (.dup, 1) := by decide +kernel
theorem dX1_beginning_46 : decode cX1_beginning 46 = .ok (.getfield 84, 3) := by decide +kernel
theorem dX1_beginning_49 : decode cX1_beginning 49 = .ok (.iconst 1, 1) := by decide +kernel
theorem dX1_beginning_50 : decode cX1_beginning 50 = .ok (.isub, 1) := by decide +kernel
theorem dX1_beginning_51 : decode cX1_beginning 51 = .ok (.putfield 84, 3) := by decide +kernel
theorem dX1_beginning_54 : decode cX1_beginning 54 = .ok (.aload_n 0, 1) := by decide +kernel
theorem dX1_beginning_55 : decode cX1_beginning 55 = .ok (.aload_n 2, 1) := by decide +kernel
theorem dX1_beginning_56 : decode cX1_beginning 56 = .ok (.invokevirtual 115, 3) := by decide +kernel
theorem dX1_beginning_59 : decode cX1_beginning 59 = .ok (.ifCond .eq 14, 3) := by decide +kernel
theorem dX1_beginning_62 : decode cX1_beginning 62 = .ok (.aload_n 0, 1) := by decide +kernel
theorem dX1_beginning_63 : decode cX1_beginning 63 = .ok (.getfield 124, 3) := by decide +kernel
theorem dX1_beginning_66 : decode cX1_beginning 66 = .ok (.aload_n 2, 1) := by decide +kernel
theorem dX1_beginning_67 : decode cX1_beginning 67 = .ok (.invokevirtual 128, 3) := by decide +kernel
theorem dX1_beginning_70 : decode cX1_beginning 70 = .ok (.goto 4, 3) := by decide +kernel
theorem dX1_beginning_73 : decode cX1_beginning 73 = .ok (.aconst_null, 1) := by decide +kernel
theorem dX1_beginning_74 : decode cX1_beginning 74 = .ok (.astore_n 3, 1) := by decide +kernel
theorem dX1_beginning_75 : decode cX1_beginning 75 = .ok (.goto (-42), 3) := by decide +kernel
theorem dX1_beginning_78 : decode cX1_beginning 78 = .ok (.aload_n 3, 1) := by decide +kernel
theorem dX1_beginning_79 : decode cX1_beginning 79 = .ok (.areturn, 1) := by decide +kernel
theorem dX1_at_0 : decode cX1_at 0 = .ok (.aload_n 0, 1) := by decide +kernel
theorem dX1_at_1 : decode cX1_at 1 = .ok (.iload_n 1, 1) := by decide +kernel
theorem dX1_at_2 : decode cX1_at 2 = .ok (.invokevirtual 91, 3) := by decide +kernel
theorem dX1_at_5 : decode cX1_at 5 = .ok (.astore_n 3, 1) := by decide +kernel
theorem dX1_at_6 : decode cX1_at 6 = .ok (.iload_n 2, 1) := by decide +kernel
theorem dX1_at_7 : decode cX1_at 7 = .ok (.ifCond .ge 7, 3) := by decide +kernel
theorem dX1_at_10 : decode cX1_at 10 = .ok (.aconst_null, 1) := by decide +kernel
theorem dX1_at_11 : decode cX1_at 11 = .ok (.goto 9, 3) := by decide +kernel
theorem dX1_at_14 : decode cX1_at 14 = .ok (.aload_n 3, 1) := by decide +kernel
theorem dX1_at_15 : decode cX1_at 15 = .ok (.aconst_null, 1) := by decide +kernel
theorem dX1_at_16 : decode cX1_at 16 = .ok (.iconst 0, 1) := by decide +kernel
theorem dX1_at_17 : decode cX1_at 17 = .ok (.invokevirtual 178, 3) := by decide +kernel
theorem dX1_at_20 : decode cX1_at 20 = .ok (.astore 4, 2) := by decide +kernel
theorem dX1_at_22 : decode cX1_at 22 = .ok (.iconst 0, 1) := by decide +kernel
theorem dX1_at_23 : decode cX1_at 23 = .ok (.istore 5, 2) := by decide +kernel
theorem dX1_at_25 : decode cX1_at 25 = .ok (.iload 5, 2) := by decide +kernel
theorem dX1_at_27 : decode cX1_at 27 = .ok (.iload_n 2, 1) := by decide +kernel
theorem dX1_at_28 : decode cX1_at 28 = .ok (.if_icmp .ge 23, 3) := by decide +kernel
theorem dX1_at_31 : decode cX1_at 31 = .ok (.aload 4, 2) := by decide +kernel
theorem dX1_at_33 : decode cX1_at 33 = .ok (.ifnull 18, 3) := by decide +kernel
theorem dX1_at_36 : decode cX1_at 36 = .ok (.aload_n 3, 1) := by decide +kernel
theorem dX1_at_37 : decode cX1_at 37 = .ok (.aload 4, 2) := by decide +kernel
theorem dX1_at_39 : decode cX1_at 39 = .ok (.iconst 1, 1) := by decide +kernel
theorem dX1_at_40 : decode cX1_at 40 = .ok (.invokevirtual 178, 3) := by decide +kernel
theorem dX1_at_43 : decode cX1_at 43 = .ok (.astore 4, 2) := by decide +kernel
theorem dX1_at_45 : decode cX1_at 45 = .ok (.iinc 5 1, 3) := by decide +kernel
theorem dX1_at_48 : decode cX1_at 48 = .ok (.goto (-23), 3) := by decide +kernel
theorem dX1_at_51 : decode cX1_at 51 = .ok (.aload_n 0, 1) := by decide +kernel
theorem dX1_at_52 : decode cX1_at 52 = .ok (.aload 4, 2) := by decide +kernel
theorem dX1_at_54 : decode cX1_at 54 = .ok (.invokevirtual 174, 3) := by decide +kernel
theorem dX1_at_57 : decode cX1_at 57 = .ok (.ireturn, 1) := by decide +kernel
theorem dX1_poll_0 : decode cX1_poll 0 = .ok (.aload_n 0, 1) := by decide +kernel
theorem dX1_poll_1 : decode cX1_poll 1 = .ok (.iload_n 1, 1) := by decide +kernel
theorem dX1_poll_2 : decode cX1_poll 2 = .ok (.invokevirtual 91, 3) := by decide +kernel
theorem dX1_poll_5 : decode cX1_poll 5 = .ok (.astore_n 3, 1) := by decide +kernel
theorem dX1_poll_6 : decode cX1_poll 6 = .ok (.iload_n 2, 1) := by decide +kernel
theorem dX1_poll_7 : decode cX1_poll 7 = .ok (.ifCond .eq 12, 3) := by decide +kernel
theorem dX1_poll_10 : decode cX1_poll 10 = .ok (.aload_n 3, 1) := by decide +kernel
theorem dX1_poll_11 : decode cX1_poll 11 = .ok (.aconst_null, 1) := by decide +kernel
theorem dX1_poll_12 : decode cX1_poll 12 = .ok (.iconst 0, 1) := by decide +kernel
theorem dX1_poll_13 : decode cX1_poll 13 = .ok (.invokevirtual 170, 3) := by decide +kernel
theorem dX1_poll_16 : decode cX1_poll 16 = .ok (.goto 9, 3) := by decide +kernel
theorem dX1_poll_19 : decode cX1_poll 19 = .ok (.aload_n 3, 1) := by decide +kernel
theorem dX1_poll_20 : decode cX1_poll 20 = .ok (.aconst_null, 1) := by decide +kernel
theorem dX1_poll_21 : decode cX1_poll 21 = .ok (.iconst 0, 1) := by decide +kernel
theorem dX1_poll_22 : decode cX1_poll 22 = .ok (.invokevirtual 178, 3) := by decide +kernel
theorem dX1_poll_25 : decode cX1_poll 25 = .ok (.astore 4, 2) := by decide +kernel
theorem dX1_poll_27 : decode cX1_poll 27 = .ok (.aload_n 0, 1) := by decide +kernel
theorem dX1_poll_28 : decode cX1_poll 28 = .ok (.aload 4, 2) := by decide +kernel
theorem dX1_poll_30 : decode cX1_poll 30 = .ok (.invokevirtual 174, 3) := by decide +kernel
theorem dX1_poll_33 : decode cX1_poll 33 = .ok (.istore 5, 2) := by decide +kernel
theorem dX1_poll_35 : decode cX1_poll 35 = .ok (.aload_n 3, 1) := by decide +kernel
theorem dX1_poll_36 : decode cX1_poll 36 = .ok (.getfield 124, 3) := by decide +kernel
theorem dX1_poll_39 : decode cX1_poll 39 = .ok (.aload 4, 2) := by decide +kernel
theorem dX1_poll_41 : decode cX1_poll 41 = .ok (.invokevirtual 158, 3) := by decide +kernel
theorem dX1_poll_44 : decode cX1_poll 44 = .ok (.iload 5, 2) := by decide +kernel
theorem dX1_poll_46 : decode cX1_poll 46 = .ok (.ireturn, 1) := by decide +kernel
theorem dX1_next_0 : decode cX1_next 0 = .ok (.aload_n 0, 1) := by decide +kernel
theorem dX1_next_1 : decode cX1_next 1 = .ok (.iload_n 1, 1) := by decide +kernel
theorem dX1_next_2 : decode cX1_next 2 = .ok (.invokevirtual 91, 3) := by decide +kernel
theorem dX1_next_5 : decode cX1_next 5 = .ok (.astore_n 2, 1) := by decide +kernel
theorem dX1_next_6 : decode cX1_next 6 = .ok (.aload_n 2, 1) := by decide +kernel
theorem dX1_next_7 : decode cX1_next 7 = .ok (.invokevirtual 188, 3) := by decide +kernel
theorem dX1_next_10 : decode cX1_next 10 = .ok (.ifCond .ne 13, 3) := by decide +kernel
theorem dX1_next_13 : decode cX1_next 13 = .ok (.new 142, 3) := by decide +kernel
theorem dX1_next_16 : decode cX1_next 16 = .ok (.dup, 1) := by decide +kernel
theorem dX1_next_17 : decode cX1_next 17 = .ok (.ldc 192, 2) := by decide +kernel
theorem dX1_next_19 : decode cX1_next 19 = .ok (.invokespecial 146, 3) := by decide +kernel
theorem dX1_next_22 : decode cX1_next 22 = .ok (.athrow, 1) := by decide +kernel
theorem dX1_next_23 : decode cX1_next 23 = .ok (.aload_n 2, 1) := by decide +kernel
theorem dX1_next_24 : decode cX1_next 24 = .ok (.aload_n 2, 1) := by decide +kernel
theorem dX1_next_25 : decode cX1_next 25 = .ok (.getfield 194, 3) := by decide +kernel
theorem dX1_next_28 : decode cX1_next 28 = .ok (.aload_n 2, 1) := by decide +kernel
theorem dX1_next_29 : decode cX1_next 29 = .ok (.getfield 194, 3) := by decide +kernel
theorem dX1_next_32 : decode cX1_next 32 = .ok (.ifnull 7, 3) := by decide +kernel
theorem dX1_next_35 : decode cX1_next 35 = .ok (.iconst 1, 1) := by decide +kernel
theorem dX1_next_36 : decode cX1_next 36 = .ok (.goto 4, 3) := by decide +kernel
theorem dX1_next_39 : decode cX1_next 39 = .ok (.iconst 0, 1) := by decide +kernel
theorem dX1_next_40 : decode cX1_next 40 = .ok (.invokevirtual 178, 3) := by decide +kernel
theorem dX1_next_43 : decode cX1_next 43 = .ok (.astore_n 3, 1) := by decide +kernel
theorem dX1_next_44 : decode cX1_next 44 = .ok (.aload_n 0, 1) := by decide +kernel
theorem dX1_next_45 : decode cX1_next 45 = .ok (.aload_n 3, 1) := by decide +kernel
theorem dX1_next_46 : decode cX1_next 46 = .ok (.invokevirtual 174, 3) := by decide +kernel
theorem dX1_next_49 : decode cX1_next 49 = .ok (.istore 4, 2) := by decide +kernel
theorem dX1_next_51 : decode cX1_next 51 = .ok (.aload_n 2, 1) := by decide +kernel
theorem dX1_next_52 : decode cX1_next 52 = .ok (.aload_n 3, 1) := by decide +kernel
theorem dX1_next_53 : decode cX1_next 53 = .ok (.putfield 194, 3) := by decide +kernel
theorem dX1_next_56 : decode cX1_next 56 = .ok (.aload_n 2, 1) := by decide +kernel
theorem dX1_next_57 : decode cX1_next 57 = .ok (.iconst 1, 1) := by decide +kernel
theorem dX1_next_58 : decode cX1_next 58 = .ok (.putfield 198, 3) := by decide +kernel
theorem dX1_next_61 : decode cX1_next 61 = .ok (.iload 4, 2) := by decide +kernel
theorem dX1_next_63 : decode cX1_next 63 = .ok (.ireturn, 1) := by decide +kernel
theorem dX1_drop_0 : decode cX1_drop 0 = .ok (.aload_n 0, 1) := by decide +kernel
theorem dX1_drop_1 : decode cX1_drop 1 = .ok (.iload_n 1, 1) := by decide +kernel
theorem dX1_drop_2 : decode cX1_drop 2 = .ok (.invokevirtual 91, 3) := by decide +kernel
theorem dX1_drop_5 : decode cX1_drop 5 = .ok (.astore_n 2, 1) := by decide +kernel
theorem dX1_drop_6 : decode cX1_drop 6 = .ok (.aload_n 2, 1) := by decide +kernel
theorem dX1_drop_7 : decode cX1_drop 7 = .ok (.invokevirtual 188, 3) := by decide +kernel
theorem dX1_drop_10 : decode cX1_drop 10 = .ok (.ifCond .eq 10, 3) := by decide +kernel
theorem dX1_drop_13 : decode cX1_drop 13 = .ok (.aload_n 2, 1) := by decide +kernel
theorem dX1_drop_14 : decode cX1_drop 14 = .ok (.getfield 198, 3) := by decide +kernel
theorem dX1_drop_17 : decode cX1_drop 17 = .ok (.ifCond .ne 13, 3) := by decide +kernel
theorem dX1_drop_20 : decode cX1_drop 20 = .ok (.new 142, 3) := by decide +kernel
theorem dX1_drop_23 : decode cX1_drop 23 = .ok (.dup, 1) := by decide +kernel
theorem dX1_drop_24 : decode cX1_drop 24 = .ok (.ldc 201, 2) := by decide +kernel
theorem dX1_drop_26 : decode cX1_drop 26 = .ok (.invokespecial 146, 3) := by decide +kernel
theorem dX1_drop_29 : decode cX1_drop 29 = .ok (.athrow, 1) := by decide +kernel
theorem dX1_drop_30 : decode cX1_drop 30 = .ok (.aload_n 2, 1) := by decide +kernel
theorem dX1_drop_31 : decode cX1_drop 31 = .ok (.getfield 124, 3) := by decide +kernel
theorem dX1_drop_34 : decode cX1_drop 34 = .ok (.aload_n 2, 1) := by decide +kernel
theorem dX1_drop_35 : decode cX1_drop 35 = .ok (.getfield 194, 3) := by decide +kernel
theorem dX1_drop_38 : decode cX1_drop 38 = .ok (.invokevirtual 158, 3) := by decide +kernel
theorem dX1_drop_41 : decode cX1_drop 41 = .ok (.aload_n 2, 1) := by decide +kernel
theorem dX1_drop_42 : decode cX1_drop 42 = .ok (.aload_n 2, 1) := by decide +kernel
theorem dX1_drop_43 : decode cX1_drop 43 = .ok (.getfield 124, 3) := by decide +kernel
theorem dX1_drop_46 : decode cX1_drop 46 = .ok (.getfield 203, 3) := by decide +kernel
theorem dX1_drop_49 : decode cX1_drop 49 = .ok (.putfield 206, 3) := by decide +kernel
theorem dX1_drop_52 : decode cX1_drop 52 = .ok (.aload_n 2, 1) := by decide +kernel
theorem dX1_drop_53 : decode cX1_drop 53 = .ok (.iconst 0, 1) := by decide +kernel
theorem dX1_drop_54 : decode cX1_drop 54 = .ok (.putfield 198, 3) := by decide +kernel
theorem dX1_drop_57 : decode cX1_drop 57 = .ok (.aload_n 2, 1) := by decide +kernel
theorem dX1_drop_58 : decode cX1_drop 58 = .ok (.getfield 194, 3) := by decide +kernel
theorem dX1_drop_61 : decode cX1_drop 61 = .ok (.getfield 134, 3) := by decide +kernel
theorem dX1_drop_64 : decode cX1_drop 64 = .ok (.ireturn, 1) := by decide +kernel
theorem dX1_match_0 : decode cX1_match 0 = .ok (.aload_n 0, 1) := by decide +kernel
theorem dX1_match_1 : decode cX1_match 1 = .ok (.iload_n 1, 1) := by decide +kernel
theorem dX1_match_2 : decode cX1_match 2 = .ok (.invokevirtual 91, 3) := by decide +kernel
theorem dX1_match_5 : decode cX1_match 5 = .ok (.astore_n 3, 1) := by decide +kernel
theorem dX1_match_6 : decode cX1_match 6 = .ok (.aload_n 0, 1) := by decide +kernel
theorem dX1_match_7 : decode cX1_match 7 = .ok (.invokevirtual 95, 3) := by decide +kernel
theorem dX1_match_10 : decode cX1_match 10 = .ok (.astore 4, 2) := by decide +kernel
theorem dX1_match_12 : decode cX1_match 12 = .ok (.iload_n 2, 1) := by decide +kernel
theorem dX1_match_13 : decode cX1_match 13 = .ok (.ifCond .ge 13, 3) := by decide +kernel
theorem dX1_match_16 : decode cX1_match 16 = .ok (.new 119, 3) := by decide +kernel
theorem dX1_match_19 : decode cX1_match 19 = .ok (.dup, 1) := by decide +kernel
theorem dX1_match_20 : decode cX1_match 20 = .ok (.ldc 207, 2) := by decide +kernel
theorem dX1_match_22 : decode cX1_match 22 = .ok (.invokespecial 123, 3) := by decide +kernel
theorem dX1_match_25 : decode cX1_match 25 = .ok (.athrow, 1) := by decide +kernel
theorem dX1_match_26 : decode cX1_match 26 = .ok (.iconst 0, 1) := by decide +kernel
theorem dX1_match_27 : decode cX1_match 27 = .ok (.istore 5, 2) := by decide +kernel
theorem dX1_match_29 : decode cX1_match 29 = .ok (.aload_n 3, 1) := by decide +kernel
theorem dX1_match_30 : decode cX1_match 30 = .ok (.aconst_null, 1) := by decide +kernel
theorem dX1_match_31 : decode cX1_match 31 = .ok (.iconst 0, 1) := by decide +kernel
theorem dX1_match_32 : decode cX1_match 32 = .ok (.invokevirtual 209, 3) := by decide +kernel
theorem dX1_match_35 : decode cX1_match 35 = .ok (.astore 6, 2) := by decide +kernel
theorem dX1_match_37 : decode cX1_match 37 = .ok (.aload 6, 2) := by decide +kernel
theorem dX1_match_39 : decode cX1_match 39 = .ok (.ifnull 49, 3) := by decide +kernel
theorem dX1_match_42 : decode cX1_match 42 = .ok (.iload 5, 2) := by decide +kernel
theorem dX1_match_44 : decode cX1_match 44 = .ok (.aload 6, 2) := by decide +kernel
theorem dX1_match_46 : decode cX1_match 46 = .ok (.getfield 212, 3) := by decide +kernel
theorem dX1_match_49 : decode cX1_match 49 = .ok (.aload 4, 2) := by decide +kernel
theorem dX1_match_51 : decode cX1_match 51 = .ok (.getfield 84, 3) := by decide +kernel
theorem dX1_match_54 : decode cX1_match 54 = .ok (.if_icmp .ne 18, 3) := by decide +kernel
theorem dX1_match_57 : decode cX1_match 57 = .ok (.aload 6, 2) := by decide +kernel
theorem dX1_match_59 : decode cX1_match 59 = .ok (.aload 4, 2) := by decide +kernel
theorem dX1_match_61 : decode cX1_match 61 = .ok (.invokestatic 213, 3) := by decide +kernel
theorem dX1_match_64 : decode cX1_match 64 = .ok (.iload_n 2, 1) := by decide +kernel
theorem dX1_match_65 : decode cX1_match 65 = .ok (.if_icmp .gt 7, 3) := by decide +kernel
theorem dX1_match_68 : decode cX1_match 68 = .ok (.iconst 1, 1) := by decide +kernel
theorem dX1_match_69 : decode cX1_match 69 = .ok (.goto 4, 3) := by decide +kernel
theorem dX1_match_72 : decode cX1_match 72 = .ok (.iconst 0, 1) := by decide +kernel
theorem dX1_match_73 : decode cX1_match 73 = .ok (.iadd, 1) := by decide +kernel
theorem dX1_match_74 : decode cX1_match 74 = .ok (.istore 5, 2) := by decide +kernel
theorem dX1_match_76 : decode cX1_match 76 = .ok (.aload_n 3, 1) := by decide +kernel
theorem dX1_match_77 : decode cX1_match 77 = .ok (.aload 6, 2) := by decide +kernel
theorem dX1_match_79 : decode cX1_match 79 = .ok (.iconst 1, 1) := by decide +kernel
theorem dX1_match_80 : decode cX1_match 80 = .ok (.invokevirtual 209, 3) := by decide +kernel
theorem dX1_match_83 : decode cX1_match 83 = .ok (.astore 6, 2) := by decide +kernel
theorem dX1_match_85 : decode cX1_match 85 = .ok (.goto (-48), 3) := by decide +kernel
theorem dX1_match_88 : decode cX1_match 88 = .ok (.iload 5, 2) := by decide +kernel
theorem dX1_match_90 : decode cX1_match 90 = .ok (.ireturn, 1) := by decide +kernel
theorem dX1_differences_0 : decode cX1_differences 0 = .ok (.iconst 0, 1) := by decide +kernel
theorem dX1_differences_1 : decode cX1_differences 1 = .ok (.istore_n 2, 1) := by decide +kernel
theorem dX1_differences_2 : decode cX1_differences 2 = .ok (.iconst 0, 1) := by decide +kernel
theorem dX1_differences_3 : decode cX1_differences 3 = .ok (.istore_n 3, 1) := by decide +kernel
theorem dX1_differences_4 : decode cX1_differences 4 = .ok (.iload_n 3, 1) := by decide +kernel
theorem dX1_differences_5 : decode cX1_differences 5 = .ok (.aload_n 0, 1) := by decide +kernel
theorem dX1_differences_6 : decode cX1_differences 6 = .ok (.getfield 84, 3) := by decide +kernel
theorem dX1_differences_9 : decode cX1_differences 9 = .ok (.if_icmp .ge 43, 3) := by decide +kernel
theorem dX1_differences_12 : decode cX1_differences 12 = .ok (.iload_n 2, 1) := by decide +kernel
theorem dX1_differences_13 : decode cX1_differences 13 = .ok (.aload_n 1, 1) := by decide +kernel
theorem dX1_differences_14 : decode cX1_differences 14 = .ok (.getfield 87, 3) := by decide +kernel
theorem dX1_differences_17 : decode cX1_differences 17 = .ok (.iload_n 3, 1) := by decide +kernel
theorem dX1_differences_18 : decode cX1_differences 18 = .ok (.caload, 1) := by decide +kernel
theorem dX1_differences_19 : decode cX1_differences 19 = .ok (.bipush 63, 2) := by decide +kernel
theorem dX1_differences_21 : decode cX1_differences 21 = .ok (.if_icmp .eq 18, 3) := by decide +kernel
theorem dX1_differences_24 : decode cX1_differences 24 = .ok (.aload_n 1, 1) := by decide +kernel
theorem dX1_differences_25 : decode cX1_differences 25 = .ok (.getfield 87, 3) := by decide +kernel
theorem dX1_differences_28 : decode cX1_differences 28 = .ok (.iload_n 3, 1) := by decide +kernel
theorem dX1_differences_29 : decode cX1_differences 29 = .ok (.caload, 1) := by decide +kernel
theorem dX1_differences_30 : decode cX1_differences 30 = .ok (.aload_n 0, 1) := by decide +kernel
theorem dX1_differences_31 : decode cX1_differences 31 = .ok (.getfield 87, 3) := by decide +kernel
theorem dX1_differences_34 : decode cX1_differences 34 = .ok (.iload_n 3, 1) := by decide +kernel
theorem dX1_differences_35 : decode cX1_differences 35 = .ok (.caload, 1) := by decide +kernel
theorem dX1_differences_36 : decode cX1_differences 36 = .ok (.if_icmp .ne 7, 3) := by decide +kernel
theorem dX1_differences_39 : decode cX1_differences 39 = .ok (.iconst 0, 1) := by decide +kernel
theorem dX1_differences_40 : decode cX1_differences 40 = .ok (.goto 4, 3) := by decide +kernel
theorem dX1_differences_43 : decode cX1_differences 43 = .ok (.iconst 1, 1) := by decide +kernel
theorem dX1_differences_44 : decode cX1_differences 44 = .ok (.iadd, 1) := by decide +kernel
theorem dX1_differences_45 : decode cX1_differences 45 = .ok (.istore_n 2, 1) := by decide +kernel
theorem dX1_differences_46 : decode cX1_differences 46 = .ok (.iinc 3 1, 3) := by decide +kernel
theorem dX1_differences_49 : decode cX1_differences 49 = .ok (.goto (-45), 3) := by decide +kernel
theorem dX1_differences_52 : decode cX1_differences 52 = .ok (.iload_n 2, 1) := by decide +kernel
theorem dX1_differences_53 : decode cX1_differences 53 = .ok (.ireturn, 1) := by decide +kernel
theorem dX1_edges_0 : decode cX1_edges 0 = .ok (.iload_n 1, 1) := by decide +kernel
theorem dX1_edges_1 : decode cX1_edges 1 = .ok (.ifCond .lt 12, 3) := by decide +kernel
theorem dX1_edges_4 : decode cX1_edges 4 = .ok (.iload_n 1, 1) := by decide +kernel
theorem dX1_edges_5 : decode cX1_edges 5 = .ok (.iconst 5, 1) := by decide +kernel
theorem dX1_edges_6 : decode cX1_edges 6 = .ok (.if_icmp .gt 7, 3) := by decide +kernel
theorem dX1_edges_9 : decode cX1_edges 9 = .ok (.iconst 1, 1) := by decide +kernel
theorem dX1_edges_10 : decode cX1_edges 10 = .ok (.goto 4, 3) := by decide +kernel
theorem dX1_edges_13 : decode cX1_edges 13 = .ok (.iconst 0, 1) := by decide +kernel
theorem dX1_edges_14 : decode cX1_edges 14 = .ok (.invokestatic 76, 3) := by decide +kernel
theorem dX1_edges_17 : decode cX1_edges 17 = .ok (.iload_n 1, 1) := by decide +kernel
theorem dX1_edges_18 : decode cX1_edges 18 = .ok (.iconst 5, 1) := by decide +kernel
theorem dX1_edges_19 : decode cX1_edges 19 = .ok (.if_icmp .ge 12, 3) := by decide +kernel
theorem dX1_edges_22 : decode cX1_edges 22 = .ok (.aload_n 0, 1) := by decide +kernel
theorem dX1_edges_23 : decode cX1_edges 23 = .ok (.getfield 36, 3) := by decide +kernel
theorem dX1_edges_26 : decode cX1_edges 26 = .ok (.iload_n 1, 1) := by decide +kernel
theorem dX1_edges_27 : decode cX1_edges 27 = .ok (.invokevirtual 217, 3) := by decide +kernel
theorem dX1_edges_30 : decode cX1_edges 30 = .ok (.ireturn, 1) := by decide +kernel
theorem dX1_edges_31 : decode cX1_edges 31 = .ok (.aload_n 0, 1) := by decide +kernel
theorem dX1_edges_32 : decode cX1_edges 32 = .ok (.invokevirtual 95, 3) := by decide +kernel
theorem dX1_edges_35 : decode cX1_edges 35 = .ok (.astore_n 2, 1) := by decide +kernel
theorem dX1_edges_36 : decode cX1_edges 36 = .ok (.aload_n 0, 1) := by decide +kernel
theorem dX1_edges_37 : decode cX1_edges 37 = .ok (.getfield 29, 3) := by decide +kernel
theorem dX1_edges_40 : decode cX1_edges 40 = .ok (.aload_n 2, 1) := by decide +kernel
theorem dX1_edges_41 : decode cX1_edges 41 = .ok (.invokevirtual 221, 3) := by decide +kernel
theorem dX1_edges_44 : decode cX1_edges 44 = .ok (.ifnonnull 7, 3) := by decide +kernel
theorem dX1_edges_47 : decode cX1_edges 47 = .ok (.iconst (-1), 1) := by decide +kernel
theorem dX1_edges_48 : decode cX1_edges 48 = .ok (.goto 11, 3) := by decide +kernel
theorem dX1_edges_51 : decode cX1_edges 51 = .ok (.aload_n 0, 1) := by decide +kernel
theorem dX1_edges_52 : decode cX1_edges 52 = .ok (.getfield 29, 3) := by decide +kernel
theorem dX1_edges_55 : decode cX1_edges 55 = .ok (.aload_n 2, 1) := by decide +kernel
theorem dX1_edges_56 : decode cX1_edges 56 = .ok (.invokevirtual 222, 3) := by decide +kernel
theorem dX1_edges_59 : decode cX1_edges 59 = .ok (.ireturn, 1) := by decide +kernel
theorem dX1_freeze_0 : decode cX1_freeze 0 = .ok (.aload_n 0, 1) := by decide +kernel
theorem dX1_freeze_1 : decode cX1_freeze 1 = .ok (.iload_n 1, 1) := by decide +kernel
theorem dX1_freeze_2 : decode cX1_freeze 2 = .ok (.invokevirtual 91, 3) := by decide +kernel
theorem dX1_freeze_5 : decode cX1_freeze 5 = .ok (.astore_n 2, 1) := by decide +kernel
theorem dX1_freeze_6 : decode cX1_freeze 6 = .ok (.aload_n 0, 1) := by decide +kernel
theorem dX1_freeze_7 : decode cX1_freeze 7 = .ok (.getfield 46, 3) := by decide +kernel
theorem dX1_freeze_10 : decode cX1_freeze 10 = .ok (.invokevirtual 66, 3) := by decide +kernel
theorem dX1_freeze_13 : decode cX1_freeze 13 = .ok (.aload_n 2, 1) := by decide +kernel
theorem dX1_freeze_14 : decode cX1_freeze 14 = .ok (.aconst_null, 1) := by decide +kernel
theorem dX1_freeze_15 : decode cX1_freeze 15 = .ok (.iconst 0, 1) := by decide +kernel
theorem dX1_freeze_16 : decode cX1_freeze 16 = .ok (.invokevirtual 209, 3) := by decide +kernel
theorem dX1_freeze_19 : decode cX1_freeze 19 = .ok (.astore_n 3, 1) := by decide +kernel
theorem dX1_freeze_20 : decode cX1_freeze 20 = .ok (.aload_n 3, 1) := by decide +kernel
theorem dX1_freeze_21 : decode cX1_freeze 21 = .ok (.ifnull 21, 3) := by decide +kernel
theorem dX1_freeze_24 : decode cX1_freeze 24 = .ok (.aload_n 0, 1) := by decide +kernel
theorem dX1_freeze_25 : decode cX1_freeze 25 = .ok (.getfield 46, 3) := by decide +kernel
theorem dX1_freeze_28 : decode cX1_freeze 28 = .ok (.aload_n 3, 1) := by decide +kernel
theorem dX1_freeze_29 : decode cX1_freeze 29 = .ok (.invokevirtual 226, 3) := by decide +kernel
theorem dX1_freeze_32 : decode cX1_freeze 32 = .ok (.aload_n 2, 1) := by decide +kernel
theorem dX1_freeze_33 : decode cX1_freeze 33 = .ok (.aload_n 3, 1) := by decide +kernel
theorem dX1_freeze_34 : decode cX1_freeze 34 = .ok (.iconst 1, 1) := by decide +kernel
theorem dX1_freeze_35 : decode cX1_freeze 35 = .ok (.invokevirtual 209, 3) := by decide +kernel
theorem dX1_freeze_38 : decode cX1_freeze 38 = .ok (.astore_n 3, 1) := by decide +kernel
theorem dX1_freeze_39 : decode cX1_freeze 39 = .ok (.goto (-19), 3) := by decide +kernel
theorem dX1_freeze_42 : decode cX1_freeze 42 = .ok (.aload_n 0, 1) := by decide +kernel
theorem dX1_freeze_43 : decode cX1_freeze 43 = .ok (.getfield 46, 3) := by decide +kernel
theorem dX1_freeze_46 : decode cX1_freeze 46 = .ok (.invokevirtual 228, 3) := by decide +kernel
theorem dX1_freeze_49 : decode cX1_freeze 49 = .ok (.aload_n 0, 1) := by decide +kernel
theorem dX1_freeze_50 : decode cX1_freeze 50 = .ok (.getfield 46, 3) := by decide +kernel
theorem dX1_freeze_53 : decode cX1_freeze 53 = .ok (.iconst 0, 1) := by decide +kernel
theorem dX1_freeze_54 : decode cX1_freeze 54 = .ok (.invokevirtual 231, 3) := by decide +kernel
theorem dX1_freeze_57 : decode cX1_freeze 57 = .ok (.ireturn, 1) := by decide +kernel
theorem dX1_insert_0 : decode cX1_insert 0 = .ok (.iload_n 1, 1) := by decide +kernel
theorem dX1_insert_1 : decode cX1_insert 1 = .ok (.ifCond .lt 18, 3) := by decide +kernel
theorem dX1_insert_4 : decode cX1_insert 4 = .ok (.iload_n 1, 1) := by decide +kernel
theorem dX1_insert_5 : decode cX1_insert 5 = .ok (.aload_n 0, 1) := by decide +kernel
theorem dX1_insert_6 : decode cX1_insert 6 = .ok (.getfield 53, 3) := by decide +kernel
theorem dX1_insert_9 : decode cX1_insert 9 = .ok (.invokevirtual 239, 3) := by decide +kernel
theorem dX1_insert_12 : decode cX1_insert 12 = .ok (.if_icmp .gt 7, 3) := by decide +kernel
theorem dX1_insert_15 : decode cX1_insert 15 = .ok (.iconst 1, 1) := by decide +kernel
theorem dX1_insert_16 : decode cX1_insert 16 = .ok (.goto 4, 3) := by decide +kernel
theorem dX1_insert_19 : decode cX1_insert 19 = .ok (.iconst 0, 1) := by decide +kernel
theorem dX1_insert_20 : decode cX1_insert 20 = .ok (.invokestatic 76, 3) := by decide +kernel
theorem dX1_insert_23 : decode cX1_insert 23 = .ok (.aload_n 0, 1) := by decide +kernel
theorem dX1_insert_24 : decode cX1_insert 24 = .ok (.invokevirtual 95, 3) := by decide +kernel
theorem dX1_insert_27 : decode cX1_insert 27 = .ok (.astore_n 2, 1) := by decide +kernel
theorem dX1_insert_28 : decode cX1_insert 28 = .ok (.aload_n 0, 1) := by decide +kernel
theorem dX1_insert_29 : decode cX1_insert 29 = .ok (.getfield 53, 3) := by decide +kernel
theorem dX1_insert_32 : decode cX1_insert 32 = .ok (.invokevirtual 239, 3) := by decide +kernel
theorem dX1_insert_35 : decode cX1_insert 35 = .ok (.aload_n 2, 1) := by decide +kernel
theorem dX1_insert_36 : decode cX1_insert 36 = .ok (.getfield 84, 3) := by decide +kernel
theorem dX1_insert_39 : decode cX1_insert 39 = .ok (.iadd, 1) := by decide +kernel
theorem dX1_insert_40 : decode cX1_insert 40 = .ok (.bipush 120, 2) := by decide +kernel
theorem dX1_insert_42 : decode cX1_insert 42 = .ok (.if_icmp .le 13, 3) := by decide +kernel
theorem dX1_insert_45 : decode cX1_insert 45 = .ok (.new 142, 3) := by decide +kernel
theorem dX1_insert_48 : decode cX1_insert 48 = .ok (.dup, 1) := by decide +kernel
theorem dX1_insert_49 : decode cX1_insert 49 = .ok (.ldc 242, 2) := by decide +kernel
theorem dX1_insert_51 : decode cX1_insert 51 = .ok (.invokespecial 146, 3) := by decide +kernel
theorem dX1_insert_54 : decode cX1_insert 54 = .ok (.athrow, 1) := by decide +kernel
theorem dX1_insert_55 : decode cX1_insert 55 = .ok (.aload_n 0, 1) := by decide +kernel
theorem dX1_insert_56 : decode cX1_insert 56 = .ok (.getfield 53, 3) := by decide +kernel
theorem dX1_insert_59 : decode cX1_insert 59 = .ok (.iload_n 1, 1) := by decide +kernel
theorem dX1_insert_60 : decode cX1_insert 60 = .ok (.aload_n 2, 1) := by decide +kernel
theorem dX1_insert_61 : decode cX1_insert 61 = .ok (.invokevirtual 244, 3) := by decide +kernel
theorem dX1_insert_64 : decode cX1_insert 64 = .ok (.ireturn, 1) := by decide +kernel
theorem dX1_delete_0 : decode cX1_delete 0 = .ok (.iload_n 1, 1) := by decide +kernel
theorem dX1_delete_1 : decode cX1_delete 1 = .ok (.ifCond .lt 23, 3) := by decide +kernel
theorem dX1_delete_4 : decode cX1_delete 4 = .ok (.iload_n 1, 1) := by decide +kernel
theorem dX1_delete_5 : decode cX1_delete 5 = .ok (.iload_n 2, 1) := by decide +kernel
theorem dX1_delete_6 : decode cX1_delete 6 = .ok (.if_icmp .gt 18, 3) := by decide +kernel
theorem dX1_delete_9 : decode cX1_delete 9 = .ok (.iload_n 2, 1) := by decide +kernel
theorem dX1_delete_10 : decode cX1_delete 10 = .ok (.aload_n 0, 1) := by decide +kernel
theorem dX1_delete_11 : decode cX1_delete 11 = .ok (.getfield 53, 3) := by decide +kernel
theorem dX1_delete_14 : decode cX1_delete 14 = .ok (.invokevirtual 239, 3) := by decide +kernel
theorem dX1_delete_17 : decode cX1_delete 17 = .ok (.if_icmp .gt 7, 3) := by decide +kernel
theorem dX1_delete_20 : decode cX1_delete 20 = .ok (.iconst 1, 1) := by decide +kernel
theorem dX1_delete_21 : decode cX1_delete 21 = .ok (.goto 4, 3) := by decide +kernel
theorem dX1_delete_24 : decode cX1_delete 24 = .ok (.iconst 0, 1) := by decide +kernel
theorem dX1_delete_25 : decode cX1_delete 25 = .ok (.invokestatic 76, 3) := by decide +kernel
theorem dX1_delete_28 : decode cX1_delete 28 = .ok (.aload_n 0, 1) := by decide +kernel
theorem dX1_delete_29 : decode cX1_delete 29 = .ok (.getfield 53, 3) := by decide +kernel
theorem dX1_delete_32 : decode cX1_delete 32 = .ok (.iload_n 1, 1) := by decide +kernel
theorem dX1_delete_33 : decode cX1_delete 33 = .ok (.iload_n 2, 1) := by decide +kernel
theorem dX1_delete_34 : decode cX1_delete 34 = .ok (.invokevirtual 248, 3) := by decide +kernel
theorem dX1_delete_37 : decode cX1_delete 37 = .ok (.ireturn, 1) := by decide +kernel
theorem dX2_init_0 : decode cX2_init 0 = .ok (.aload_n 0, 1) := by decide +kernel
theorem dX2_init_1 : decode cX2_init 1 = .ok (.invokespecial 3, 3) := by decide +kernel
theorem dX2_init_4 : decode cX2_init 4 = .ok (.aload_n 0, 1) := by decide +kernel
theorem dX2_init_5 : decode cX2_init 5 = .ok (.bipush 8, 2) := by decide +kernel
theorem dX2_init_7 : decode cX2_init 7 = .ok (.newarray .char, 2) := by decide +kernel
theorem dX2_init_9 : decode cX2_init 9 = .ok (.putfield 9, 3) := by decide +kernel
theorem dX2_init_12 : decode cX2_init 12 = .ok (.return_, 1) := by decide +kernel
theorem dX2_compareTo_0 : decode cX2_compareTo 0 = .ok (.aload_n 0, 1) := by decide +kernel
theorem dX2_compareTo_1 : decode cX2_compareTo 1 = .ok (.getfield 15, 3) := by decide +kernel
theorem dX2_compareTo_4 : decode cX2_compareTo 4 = .ok (.aload_n 1, 1) := by decide +kernel
theorem dX2_compareTo_5 : decode cX2_compareTo 5 = .ok (.getfield 15, 3) := by decide +kernel
theorem dX2_compareTo_8 : decode cX2_compareTo 8 = .ok (.invokestatic 19, 3) := by decide +kernel
theorem dX2_compareTo_11 : decode cX2_compareTo 11 = .ok (.istore_n 2, 1) := by decide +kernel
theorem dX2_compareTo_12 : decode cX2_compareTo 12 = .ok (.iconst 0, 1) := by decide +kernel
theorem dX2_compareTo_13 : decode cX2_compareTo 13 = .ok (.istore_n 3, 1) := by decide +kernel
theorem dX2_compareTo_14 : decode cX2_compareTo 14 = .ok (.iload_n 3, 1) := by decide +kernel
theorem dX2_compareTo_15 : decode cX2_compareTo 15 = .ok (.iload_n 2, 1) := by decide +kernel
theorem dX2_compareTo_16 : decode cX2_compareTo 16 = .ok (.if_icmp .ge 45, 3) := by decide +kernel
theorem dX2_compareTo_19 : decode cX2_compareTo 19 = .ok (.aload_n 0, 1) := by decide +kernel
theorem dX2_compareTo_20 : decode cX2_compareTo 20 = .ok (.getfield 9, 3) := by decide +kernel
theorem dX2_compareTo_23 : decode cX2_compareTo 23 = .ok (.iload_n 3, 1) := by decide +kernel
theorem dX2_compareTo_24 : decode cX2_compareTo 24 = .ok (.caload, 1) := by decide +kernel
theorem dX2_compareTo_25 : decode cX2_compareTo 25 = .ok (.aload_n 1, 1) := by decide +kernel
theorem dX2_compareTo_26 : decode cX2_compareTo 26 = .ok (.getfield 9, 3) := by decide +kernel
theorem dX2_compareTo_29 : decode cX2_compareTo 29 = .ok (.iload_n 3, 1) := by decide +kernel
theorem dX2_compareTo_30 : decode cX2_compareTo 30 = .ok (.caload, 1) := by decide +kernel
theorem dX2_compareTo_31 : decode cX2_compareTo 31 = .ok (.if_icmp .eq 24, 3) := by decide +kernel
theorem dX2_compareTo_34 : decode cX2_compareTo 34 = .ok (.aload_n 0, 1) := by decide +kernel
theorem dX2_compareTo_35 : decode cX2_compareTo 35 = .ok (.getfield 9, 3) := by decide +kernel
theorem dX2_compareTo_38 : decode cX2_compareTo 38 = .ok (.iload_n 3, 1) := by decide +kernel
theorem dX2_compareTo_39 : decode cX2_compareTo 39 = .ok (.caload, 1) := by decide +kernel
theorem dX2_compareTo_40 : decode cX2_compareTo 40 = .ok (.aload_n 1, 1) := by decide +kernel
theorem dX2_compareTo_41 : decode cX2_compareTo 41 = .ok (.getfield 9, 3) := by decide +kernel
theorem dX2_compareTo_44 : decode cX2_compareTo 44 = .ok (.iload_n 3, 1) := by decide +kernel
theorem dX2_compareTo_45 : decode cX2_compareTo 45 = .ok (.caload, 1) := by decide +kernel
theorem dX2_compareTo_46 : decode cX2_compareTo 46 = .ok (.if_icmp .ge 7, 3) := by decide +kernel
theorem dX2_compareTo_49 : decode cX2_compareTo 49 = .ok (.iconst (-1), 1) := by decide +kernel
theorem dX2_compareTo_50 : decode cX2_compareTo 50 = .ok (.goto 4, 3) := by decide +kernel
theorem dX2_compareTo_53 : decode cX2_compareTo 53 = .ok (.iconst 1, 1) := by decide +kernel
theorem dX2_compareTo_54 : decode cX2_compareTo 54 = .ok (.ireturn, 1) := by decide +kernel
theorem dX2_compareTo_55 : decode cX2_compareTo 55 = .ok (.iinc 3 1, 3) := by decide +kernel
theorem dX2_compareTo_58 : decode cX2_compareTo 58 = .ok (.goto (-44), 3) := by decide +kernel
theorem dX2_compareTo_61 : decode cX2_compareTo 61 = .ok (.aload_n 0, 1) := by decide +kernel
theorem dX2_compareTo_62 : decode cX2_compareTo 62 = .ok (.getfield 15, 3) := by decide +kernel
theorem dX2_compareTo_65 : decode cX2_compareTo 65 = .ok (.aload_n 1, 1) := by decide +kernel
theorem dX2_compareTo_66 : decode cX2_compareTo 66 = .ok (.getfield 15, 3) := by decide +kernel
theorem dX2_compareTo_69 : decode cX2_compareTo 69 = .ok (.invokestatic 25, 3) := by decide +kernel
theorem dX2_compareTo_72 : decode cX2_compareTo 72 = .ok (.ireturn, 1) := by decide +kernel
theorem dX2_bit_0 : decode cX2_bit 0 = .ok (.iload_n 1, 1) := by decide +kernel
theorem dX2_bit_1 : decode cX2_bit 1 = .ok (.bipush 17, 2) := by decide +kernel
theorem dX2_bit_3 : decode cX2_bit 3 = .ok (.idiv, 1) := by decide +kernel
theorem dX2_bit_4 : decode cX2_bit 4 = .ok (.istore_n 2, 1) := by decide +kernel
theorem dX2_bit_5 : decode cX2_bit 5 = .ok (.iload_n 1, 1) := by decide +kernel
theorem dX2_bit_6 : decode cX2_bit 6 = .ok (.bipush 17, 2) := by decide +kernel
theorem dX2_bit_8 : decode cX2_bit 8 = .ok (.irem, 1) := by decide +kernel
theorem dX2_bit_9 : decode cX2_bit 9 = .ok (.istore_n 3, 1) := by decide +kernel
theorem dX2_bit_10 : decode cX2_bit 10 = .ok (.iload_n 2, 1) := by decide +kernel
theorem dX2_bit_11 : decode cX2_bit 11 = .ok (.aload_n 0, 1) := by decide +kernel
theorem dX2_bit_12 : decode cX2_bit 12 = .ok (.getfield 15, 3) := by decide +kernel
theorem dX2_bit_15 : decode cX2_bit 15 = .ok (.if_icmp .lt 7, 3) := by decide +kernel
theorem dX2_bit_18 : decode cX2_bit 18 = .ok (.iconst 0, 1) := by decide +kernel
theorem dX2_bit_19 : decode cX2_bit 19 = .ok (.goto 24, 3) := by decide +kernel
theorem dX2_bit_22 : decode cX2_bit 22 = .ok (.iload_n 3, 1) := by decide +kernel
theorem dX2_bit_23 : decode cX2_bit 23 = .ok (.ifCond .ne 7, 3) := by decide +kernel
theorem dX2_bit_26 : decode cX2_bit 26 = .ok (.iconst 1, 1) := by decide +kernel
theorem dX2_bit_27 : decode cX2_bit 27 = .ok (.goto 16, 3) := by decide +kernel
theorem dX2_bit_30 : decode cX2_bit 30 = .ok (.aload_n 0, 1) := by decide +kernel
theorem dX2_bit_31 : decode cX2_bit 31 = .ok (.getfield 9, 3) := by decide +kernel
theorem dX2_bit_34 : decode cX2_bit 34 = .ok (.iload_n 2, 1) := by decide +kernel
theorem dX2_bit_35 : decode cX2_bit 35 = .ok (.caload, 1) := by decide +kernel
theorem dX2_bit_36 : decode cX2_bit 36 = .ok (.bipush 16, 2) := by decide +kernel
theorem dX2_bit_38 : decode cX2_bit 38 = .ok (.iload_n 3, 1) := by decide +kernel
theorem dX2_bit_39 : decode cX2_bit 39 = .ok (.isub, 1) := by decide +kernel
theorem dX2_bit_40 : decode cX2_bit 40 = .ok (.ishr, 1) := by decide +kernel
theorem dX2_bit_41 : decode cX2_bit 41 = .ok (.iconst 1, 1) := by decide +kernel
theorem dX2_bit_42 : decode cX2_bit 42 = .ok (.iand, 1) := by decide +kernel
theorem dX2_bit_43 : decode cX2_bit 43 = .ok (.ireturn, 1) := by decide +kernel
theorem dX2_difference_0 : decode cX2_difference 0 = .ok (.iconst 0, 1) := by decide +kernel
theorem dX2_difference_1 : decode cX2_difference 1 = .ok (.istore_n 2, 1) := by decide +kernel
theorem dX2_difference_2 : decode cX2_difference 2 = .ok (.aload_n 0, 1) := by decide +kernel
theorem dX2_difference_3 : decode cX2_difference 3 = .ok (.iload_n 2, 1) := by decide +kernel
theorem dX2_difference_4 : decode cX2_difference 4 = .ok (.invokevirtual 30, 3) := by decide +kernel
theorem dX2_difference_7 : decode cX2_difference 7 = .ok (.aload_n 1, 1) := by decide +kernel
theorem dX2_difference_8 : decode cX2_difference 8 = .ok (.iload_n 2, 1) := by decide +kernel
theorem dX2_difference_9 : decode cX2_difference 9 = .ok (.invokevirtual 30, 3) := by decide +kernel
theorem dX2_difference_12 : decode cX2_difference 12 = .ok (.if_icmp .ne 9, 3) := by decide +kernel
theorem dX2_difference_15 : decode cX2_difference 15 = .ok (.iinc 2 1, 3) := by decide +kernel
theorem dX2_difference_18 : decode cX2_difference 18 = .ok (.goto (-16), 3) := by decide +kernel
theorem dX2_difference_21 : decode cX2_difference 21 = .ok (.iload_n 2, 1) := by decide +kernel
theorem dX2_difference_22 : decode cX2_difference 22 = .ok (.ireturn, 1) := by decide +kernel
theorem dX2_bytes_0 : decode cX2_bytes 0 = .ok (.iconst 2, 1) := by decide +kernel
theorem dX2_bytes_1 : decode cX2_bytes 1 = .ok (.aload_n 0, 1) := by decide +kernel
theorem dX2_bytes_2 : decode cX2_bytes 2 = .ok (.getfield 15, 3) := by decide +kernel
theorem dX2_bytes_5 : decode cX2_bytes 5 = .ok (.imul, 1) := by decide +kernel
theorem dX2_bytes_6 : decode cX2_bytes 6 = .ok (.ireturn, 1) := by decide +kernel
theorem dX2_octet_0 : decode cX2_octet 0 = .ok (.iload_n 1, 1) := by decide +kernel
theorem dX2_octet_1 : decode cX2_octet 1 = .ok (.iconst 2, 1) := by decide +kernel
theorem dX2_octet_2 : decode cX2_octet 2 = .ok (.irem, 1) := by decide +kernel
theorem dX2_octet_3 : decode cX2_octet 3 = .ok (.ifCond .ne 17, 3) := by decide +kernel
theorem dX2_octet_6 : decode cX2_octet 6 = .ok (.aload_n 0, 1) := by decide +kernel
theorem dX2_octet_7 : decode cX2_octet 7 = .ok (.getfield 9, 3) := by decide +kernel
theorem dX2_octet_10 : decode cX2_octet 10 = .ok (.iload_n 1, 1) := by decide +kernel
theorem dX2_octet_11 : decode cX2_octet 11 = .ok (.iconst 2, 1) := by decide +kernel
theorem dX2_octet_12 : decode cX2_octet 12 = .ok (.idiv, 1) := by decide +kernel
theorem dX2_octet_13 : decode cX2_octet 13 = .ok (.caload, 1) := by decide +kernel
theorem dX2_octet_14 : decode cX2_octet 14 = .ok (.bipush 8, 2) := by decide +kernel
theorem dX2_octet_16 : decode cX2_octet 16 = .ok (.ishr, 1) := by decide +kernel
theorem dX2_octet_17 : decode cX2_octet 17 = .ok (.goto 15, 3) := by decide +kernel
theorem dX2_octet_20 : decode cX2_octet 20 = .ok (.aload_n 0, 1) := by decide +kernel
theorem dX2_octet_21 : decode cX2_octet 21 = .ok (.getfield 9, 3) := by decide +kernel
theorem dX2_octet_24 : decode cX2_octet 24 = .ok (.iload_n 1, 1) := by decide +kernel
theorem dX2_octet_25 : decode cX2_octet 25 = .ok (.iconst 2, 1) := by decide +kernel
theorem dX2_octet_26 : decode cX2_octet 26 = .ok (.idiv, 1) := by decide +kernel
theorem dX2_octet_27 : decode cX2_octet 27 = .ok (.caload, 1) := by decide +kernel
theorem dX2_octet_28 : decode cX2_octet 28 = .ok (.sipush 255, 3) := by decide +kernel
theorem dX2_octet_31 : decode cX2_octet 31 = .ok (.iand, 1) := by decide +kernel
theorem dX2_octet_32 : decode cX2_octet 32 = .ok (.ireturn, 1) := by decide +kernel
theorem dX2_copy_0 : decode cX2_copy 0 = .ok (.aload_n 0, 1) := by decide +kernel
theorem dX2_copy_1 : decode cX2_copy 1 = .ok (.aload_n 1, 1) := by decide +kernel
theorem dX2_copy_2 : decode cX2_copy 2 = .ok (.getfield 15, 3) := by decide +kernel
theorem dX2_copy_5 : decode cX2_copy 5 = .ok (.putfield 15, 3) := by decide +kernel
theorem dX2_copy_8 : decode cX2_copy 8 = .ok (.iconst 0, 1) := by decide +kernel
theorem dX2_copy_9 : decode cX2_copy 9 = .ok (.istore_n 2, 1) := by decide +kernel
theorem dX2_copy_10 : decode cX2_copy 10 = .ok (.iload_n 2, 1) := by decide +kernel
theorem dX2_copy_11 : decode cX2_copy 11 = .ok (.aload_n 0, 1) := by decide +kernel
theorem dX2_copy_12 : decode cX2_copy 12 = .ok (.getfield 15, 3) := by decide +kernel
theorem dX2_copy_15 : decode cX2_copy 15 = .ok (.if_icmp .ge 21, 3) := by decide +kernel
theorem dX2_copy_18 : decode cX2_copy 18 = .ok (.aload_n 0, 1) := by decide +kernel
theorem dX2_copy_19 : decode cX2_copy 19 = .ok (.getfield 9, 3) := by decide +kernel
theorem dX2_copy_22 : decode cX2_copy 22 = .ok (.iload_n 2, 1) := by decide +kernel
theorem dX2_copy_23 : decode cX2_copy 23 = .ok (.aload_n 1, 1) := by decide +kernel
theorem dX2_copy_24 : decode cX2_copy 24 = .ok (.getfield 9, 3) := by decide +kernel
theorem dX2_copy_27 : decode cX2_copy 27 = .ok (.iload_n 2, 1) := by decide +kernel
theorem dX2_copy_28 : decode cX2_copy 28 = .ok (.caload, 1) := by decide +kernel
theorem dX2_copy_29 : decode cX2_copy 29 = .ok (.castore, 1) := by decide +kernel
theorem dX2_copy_30 : decode cX2_copy 30 = .ok (.iinc 2 1, 3) := by decide +kernel
theorem dX2_copy_33 : decode cX2_copy 33 = .ok (.goto (-23), 3) := by decide +kernel
theorem dX2_copy_36 : decode cX2_copy 36 = .ok (.aload_n 0, 1) := by decide +kernel
theorem dX2_copy_37 : decode cX2_copy 37 = .ok (.areturn, 1) := by decide +kernel
theorem dX3_init_0 : decode cX3_init 0 = .ok (.aload_n 0, 1) := by decide +kernel
theorem dX3_init_1 : decode cX3_init 1 = .ok (.invokespecial 1, 3) := by decide +kernel
theorem dX3_init_4 : decode cX3_init 4 = .ok (.return_, 1) := by decide +kernel
theorem dX3_add_0 : decode cX3_add 0 = .ok (.aload_n 0, 1) := by decide +kernel
theorem dX3_add_1 : decode cX3_add 1 = .ok (.aload_n 1, 1) := by decide +kernel
theorem dX3_add_2 : decode cX3_add 2 = .ok (.invokevirtual 7, 3) := by decide +kernel
theorem dX3_add_5 : decode cX3_add 5 = .ok (.aload_n 0, 1) := by decide +kernel
theorem dX3_add_6 : decode cX3_add 6 = .ok (.dup, 1) := by decide +kernel
theorem dX3_add_7 : decode cX3_add 7 = .ok (.getfield 13, 3) := by decide +kernel
theorem dX3_add_10 : decode cX3_add 10 = .ok (.iconst 1, 1) := by decide +kernel
theorem dX3_add_11 : decode cX3_add 11 = .ok (.iadd, 1) := by decide +kernel
theorem dX3_add_12 : decode cX3_add 12 = .ok (.putfield 13, 3) := by decide +kernel
theorem dX3_add_15 : decode cX3_add 15 = .ok (.aload_n 0, 1) := by decide +kernel
theorem dX3_add_16 : decode cX3_add 16 = .ok (.dup, 1) := by decide +kernel
theorem dX3_add_17 : decode cX3_add 17 = .ok (.getfield 17, 3) := by decide +kernel
theorem dX3_add_20 : decode cX3_add 20 = .ok (.iconst 1, 1) := by decide +kernel
theorem dX3_add_21 : decode cX3_add 21 = .ok (.iadd, 1) := by decide +kernel
theorem dX3_add_22 : decode cX3_add 22 = .ok (.putfield 17, 3) := by decide +kernel
theorem dX3_add_25 : decode cX3_add 25 = .ok (.return_, 1) := by decide +kernel
theorem dX3_remove_0 : decode cX3_remove 0 = .ok (.aload_n 0, 1) := by decide +kernel
theorem dX3_remove_1 : decode cX3_remove 1 = .ok (.aload_n 1, 1) := by decide +kernel
theorem dX3_remove_2 : decode cX3_remove 2 = .ok (.invokevirtual 20, 3) := by decide +kernel
theorem dX3_remove_5 : decode cX3_remove 5 = .ok (.aload_n 0, 1) := by decide +kernel
theorem dX3_remove_6 : decode cX3_remove 6 = .ok (.dup, 1) := by decide +kernel
theorem dX3_remove_7 : decode cX3_remove 7 = .ok (.getfield 13, 3) := by decide +kernel
theorem dX3_remove_10 : decode cX3_remove 10 = .ok (.iconst 1, 1) := by decide +kernel
theorem dX3_remove_11 : decode cX3_remove 11 = .ok (.isub, 1) := by decide +kernel
theorem dX3_remove_12 : decode cX3_remove 12 = .ok (.putfield 13, 3) := by decide +kernel
theorem dX3_remove_15 : decode cX3_remove 15 = .ok (.aload_n 0, 1) := by decide +kernel
theorem dX3_remove_16 : decode cX3_remove 16 = .ok (.dup, 1) := by decide +kernel
theorem dX3_remove_17 : decode cX3_remove 17 = .ok (.getfield 17, 3) := by decide +kernel
theorem dX3_remove_20 : decode cX3_remove 20 = .ok (.iconst 1, 1) := by decide +kernel
theorem dX3_remove_21 : decode cX3_remove 21 = .ok (.iadd, 1) := by decide +kernel
theorem dX3_remove_22 : decode cX3_remove 22 = .ok (.putfield 17, 3) := by decide +kernel
theorem dX3_remove_25 : decode cX3_remove 25 = .ok (.return_, 1) := by decide +kernel
theorem dX4_init_0 : decode cX4_init 0 = .ok (.aload_n 0, 1) := by decide +kernel
theorem dX4_init_1 : decode cX4_init 1 = .ok (.invokespecial 1, 3) := by decide +kernel
theorem dX4_init_4 : decode cX4_init 4 = .ok (.return_, 1) := by decide +kernel
theorem dX4_above_0 : decode cX4_above 0 = .ok (.aload_n 0, 1) := by decide +kernel
theorem dX4_above_1 : decode cX4_above 1 = .ok (.aload_n 1, 1) := by decide +kernel
theorem dX4_above_2 : decode cX4_above 2 = .ok (.iload_n 2, 1) := by decide +kernel
theorem dX4_above_3 : decode cX4_above 3 = .ok (.iconst 0, 1) := by decide +kernel
theorem dX4_above_4 : decode cX4_above 4 = .ok (.invokevirtual 73, 3) := by decide +kernel
theorem dX4_above_7 : decode cX4_above 7 = .ok (.areturn, 1) := by decide +kernel
theorem dX4_nearest_0 : decode cX4_nearest 0 = .ok (.aload_n 0, 1) := by decide +kernel
theorem dX4_nearest_1 : decode cX4_nearest 1 = .ok (.getfield 7, 3) := by decide +kernel
theorem dX4_nearest_4 : decode cX4_nearest 4 = .ok (.ifnonnull 5, 3) := by decide +kernel
theorem dX4_nearest_7 : decode cX4_nearest 7 = .ok (.aconst_null, 1) := by decide +kernel
theorem dX4_nearest_8 : decode cX4_nearest 8 = .ok (.areturn, 1) := by decide +kernel
theorem dX4_nearest_9 : decode cX4_nearest 9 = .ok (.aload_n 1, 1) := by decide +kernel
theorem dX4_nearest_10 : decode cX4_nearest 10 = .ok (.ifnonnull 12, 3) := by decide +kernel
theorem dX4_nearest_13 : decode cX4_nearest 13 = .ok (.aload_n 0, 1) := by decide +kernel
theorem dX4_nearest_14 : decode cX4_nearest 14 = .ok (.getfield 7, 3) := by decide +kernel
theorem dX4_nearest_17 : decode cX4_nearest 17 = .ok (.iload_n 3, 1) := by decide +kernel
theorem dX4_nearest_18 : decode cX4_nearest 18 = .ok (.invokevirtual 62, 3) := by decide +kernel
theorem dX4_nearest_21 : decode cX4_nearest 21 = .ok (.areturn, 1) := by decide +kernel
theorem dX4_nearest_22 : decode cX4_nearest 22 = .ok (.aload_n 0, 1) := by decide +kernel
theorem dX4_nearest_23 : decode cX4_nearest 23 = .ok (.aload_n 1, 1) := by decide +kernel
theorem dX4_nearest_24 : decode cX4_nearest 24 = .ok (.invokevirtual 32, 3) := by decide +kernel
theorem dX4_nearest_27 : decode cX4_nearest 27 = .ok (.astore 4, 2) := by decide +kernel
theorem dX4_nearest_29 : decode cX4_nearest 29 = .ok (.aload 4, 2) := by decide +kernel
theorem dX4_nearest_31 : decode cX4_nearest 31 = .ok (.aload_n 1, 1) := by decide +kernel
theorem dX4_nearest_32 : decode cX4_nearest 32 = .ok (.invokevirtual 36, 3) := by decide +kernel
theorem dX4_nearest_35 : decode cX4_nearest 35 = .ok (.ifCond .ne 21, 3) := by decide +kernel
theorem dX4_nearest_38 : decode cX4_nearest 38 = .ok (.iload_n 2, 1) := by decide +kernel
theorem dX4_nearest_39 : decode cX4_nearest 39 = .ok (.ifCond .eq 14, 3) := by decide +kernel
theorem dX4_nearest_42 : decode cX4_nearest 42 = .ok (.aload_n 0, 1) := by decide +kernel
theorem dX4_nearest_43 : decode cX4_nearest 43 = .ok (.aload_n 1, 1) := by decide +kernel
theorem dX4_nearest_44 : decode cX4_nearest 44 = .ok (.ldc 68, 2) := by decide +kernel
theorem dX4_nearest_46 : decode cX4_nearest 46 = .ok (.iload_n 3, 1) := by decide +kernel
theorem dX4_nearest_47 : decode cX4_nearest 47 = .ok (.invokevirtual 69, 3) := by decide +kernel
theorem dX4_nearest_50 : decode cX4_nearest 50 = .ok (.goto 5, 3) := by decide +kernel
theorem dX4_nearest_53 : decode cX4_nearest 53 = .ok (.aload 4, 2) := by decide +kernel
theorem dX4_nearest_55 : decode cX4_nearest 55 = .ok (.areturn, 1) := by decide +kernel
theorem dX4_nearest_56 : decode cX4_nearest 56 = .ok (.aload 4, 2) := by decide +kernel
theorem dX4_nearest_58 : decode cX4_nearest 58 = .ok (.aload_n 1, 1) := by decide +kernel
theorem dX4_nearest_59 : decode cX4_nearest 59 = .ok (.invokevirtual 45, 3) := by decide +kernel
theorem dX4_nearest_62 : decode cX4_nearest 62 = .ok (.istore 5, 2) := by decide +kernel
theorem dX4_nearest_64 : decode cX4_nearest 64 = .ok (.aload_n 1, 1) := by decide +kernel
theorem dX4_nearest_65 : decode cX4_nearest 65 = .ok (.iload 5, 2) := by decide +kernel
theorem dX4_nearest_67 : decode cX4_nearest 67 = .ok (.invokevirtual 23, 3) := by decide +kernel
theorem dX4_nearest_70 : decode cX4_nearest 70 = .ok (.iload_n 3, 1) := by decide +kernel
theorem dX4_nearest_71 : decode cX4_nearest 71 = .ok (.if_icmp .eq 12, 3) := by decide +kernel
theorem dX4_nearest_74 : decode cX4_nearest 74 = .ok (.aload_n 0, 1) := by decide +kernel
theorem dX4_nearest_75 : decode cX4_nearest 75 = .ok (.aload_n 1, 1) := by decide +kernel
theorem dX4_nearest_76 : decode cX4_nearest 76 = .ok (.iload 5, 2) := by decide +kernel
theorem dX4_nearest_78 : decode cX4_nearest 78 = .ok (.iload_n 3, 1) := by decide +kernel
theorem dX4_nearest_79 : decode cX4_nearest 79 = .ok (.invokevirtual 69, 3) := by decide +kernel
theorem dX4_nearest_82 : decode cX4_nearest 82 = .ok (.areturn, 1) := by decide +kernel
theorem dX4_nearest_83 : decode cX4_nearest 83 = .ok (.aload_n 0, 1) := by decide +kernel
theorem dX4_nearest_84 : decode cX4_nearest 84 = .ok (.getfield 7, 3) := by decide +kernel
theorem dX4_nearest_87 : decode cX4_nearest 87 = .ok (.astore 6, 2) := by decide +kernel
theorem dX4_nearest_89 : decode cX4_nearest 89 = .ok (.aload 6, 2) := by decide +kernel
theorem dX4_nearest_91 : decode cX4_nearest 91 = .ok (.getfield 13, 3) := by decide +kernel
theorem dX4_nearest_94 : decode cX4_nearest 94 = .ok (.ifnonnull 32, 3) := by decide +kernel
theorem dX4_nearest_97 : decode cX4_nearest 97 = .ok (.aload 6, 2) := by decide +kernel
theorem dX4_nearest_99 : decode cX4_nearest 99 = .ok (.getfield 19, 3) := by decide +kernel
theorem dX4_nearest_102 : decode cX4_nearest 102 = .ok (.iload 5, 2) := by decide +kernel
theorem dX4_nearest_104 : decode cX4_nearest 104 = .ok (.if_icmp .ge 22, 3) := by decide +kernel
theorem dX4_nearest_107 : decode cX4_nearest 107 = .ok (.aload 6, 2) := by decide +kernel
theorem dX4_nearest_109 : decode cX4_nearest 109 = .ok (.aload_n 1, 1) := by decide +kernel
theorem dX4_nearest_110 : decode cX4_nearest 110 = .ok (.aload 6, 2) := by decide +kernel
theorem dX4_nearest_112 : decode cX4_nearest 112 = .ok (.getfield 19, 3) := by decide +kernel
theorem dX4_nearest_115 : decode cX4_nearest 115 = .ok (.invokevirtual 23, 3) := by decide +kernel
theorem dX4_nearest_118 : decode cX4_nearest 118 = .ok (.invokevirtual 28, 3) := by decide +kernel
theorem dX4_nearest_121 : decode cX4_nearest 121 = .ok (.astore 6, 2) := by decide +kernel
theorem dX4_nearest_123 : decode cX4_nearest 123 = .ok (.goto (-34), 3) := by decide +kernel
theorem dX4_nearest_126 : decode cX4_nearest 126 = .ok (.aload 6, 2) := by decide +kernel
theorem dX4_nearest_128 : decode cX4_nearest 128 = .ok (.iload_n 3, 1) := by decide +kernel
theorem dX4_nearest_129 : decode cX4_nearest 129 = .ok (.invokevirtual 62, 3) := by decide +kernel
theorem dX4_nearest_132 : decode cX4_nearest 132 = .ok (.areturn, 1) := by decide +kernel
theorem dX4_near_0 : decode cX4_near 0 = .ok (.aload_n 0, 1) := by decide +kernel
theorem dX4_near_1 : decode cX4_near 1 = .ok (.getfield 7, 3) := by decide +kernel
theorem dX4_near_4 : decode cX4_near 4 = .ok (.astore_n 2, 1) := by decide +kernel
theorem dX4_near_5 : decode cX4_near 5 = .ok (.aload_n 2, 1) := by decide +kernel
theorem dX4_near_6 : decode cX4_near 6 = .ok (.getfield 13, 3) := by decide +kernel
theorem dX4_near_9 : decode cX4_near 9 = .ok (.ifnonnull 19, 3) := by decide +kernel
theorem dX4_near_12 : decode cX4_near 12 = .ok (.aload_n 2, 1) := by decide +kernel
theorem dX4_near_13 : decode cX4_near 13 = .ok (.aload_n 1, 1) := by decide +kernel
theorem dX4_near_14 : decode cX4_near 14 = .ok (.aload_n 2, 1) := by decide +kernel
theorem dX4_near_15 : decode cX4_near 15 = .ok (.getfield 19, 3) := by decide +kernel
theorem dX4_near_18 : decode cX4_near 18 = .ok (.invokevirtual 23, 3) := by decide +kernel
theorem dX4_near_21 : decode cX4_near 21 = .ok (.invokevirtual 28, 3) := by decide +kernel
theorem dX4_near_24 : decode cX4_near 24 = .ok (.astore_n 2, 1) := by decide +kernel
theorem dX4_near_25 : decode cX4_near 25 = .ok (.goto (-20), 3) := by decide +kernel
theorem dX4_near_28 : decode cX4_near 28 = .ok (.aload_n 2, 1) := by decide +kernel
theorem dX4_near_29 : decode cX4_near 29 = .ok (.getfield 13, 3) := by decide +kernel
theorem dX4_near_32 : decode cX4_near 32 = .ok (.areturn, 1) := by decide +kernel
theorem dX4_aside_0 : decode cX4_aside 0 = .ok (.aconst_null, 1) := by decide +kernel
theorem dX4_aside_1 : decode cX4_aside 1 = .ok (.astore 4, 2) := by decide +kernel
theorem dX4_aside_3 : decode cX4_aside 3 = .ok (.aload_n 0, 1) := by decide +kernel
theorem dX4_aside_4 : decode cX4_aside 4 = .ok (.getfield 7, 3) := by decide +kernel
theorem dX4_aside_7 : decode cX4_aside 7 = .ok (.astore 5, 2) := by decide +kernel
theorem dX4_aside_9 : decode cX4_aside 9 = .ok (.aload 5, 2) := by decide +kernel
theorem dX4_aside_11 : decode cX4_aside 11 = .ok (.getfield 13, 3) := by decide +kernel
theorem dX4_aside_14 : decode cX4_aside 14 = .ok (.ifnonnull 48, 3) := by decide +kernel
theorem dX4_aside_17 : decode cX4_aside 17 = .ok (.aload 5, 2) := by decide +kernel
theorem dX4_aside_19 : decode cX4_aside 19 = .ok (.getfield 19, 3) := by decide +kernel
theorem dX4_aside_22 : decode cX4_aside 22 = .ok (.iload_n 2, 1) := by decide +kernel
theorem dX4_aside_23 : decode cX4_aside 23 = .ok (.if_icmp .ge 39, 3) := by decide +kernel
theorem dX4_aside_26 : decode cX4_aside 26 = .ok (.aload_n 1, 1) := by decide +kernel
theorem dX4_aside_27 : decode cX4_aside 27 = .ok (.aload 5, 2) := by decide +kernel
theorem dX4_aside_29 : decode cX4_aside 29 = .ok (.getfield 19, 3) := by decide +kernel
theorem dX4_aside_32 : decode cX4_aside 32 = .ok (.invokevirtual 23, 3) := by decide +kernel
theorem dX4_aside_35 : decode cX4_aside 35 = .ok (.iload_n 3, 1) := by decide +kernel
theorem dX4_aside_36 : decode cX4_aside 36 = .ok (.if_icmp .ne 7, 3) := by decide +kernel
theorem dX4_aside_39 : decode cX4_aside 39 = .ok (.aload 5, 2) := by decide +kernel
theorem dX4_aside_41 : decode cX4_aside 41 = .ok (.astore 4, 2) := by decide +kernel
theorem dX4_aside_43 : decode cX4_aside 43 = .ok (.aload 5, 2) := by decide +kernel
theorem dX4_aside_45 : decode cX4_aside 45 = .ok (.aload_n 1, 1) := by decide +kernel
theorem dX4_aside_46 : decode cX4_aside 46 = .ok (.aload 5, 2) := by decide +kernel
theorem dX4_aside_48 : decode cX4_aside 48 = .ok (.getfield 19, 3) := by decide +kernel
theorem dX4_aside_51 : decode cX4_aside 51 = .ok (.invokevirtual 23, 3) := by decide +kernel
theorem dX4_aside_54 : decode cX4_aside 54 = .ok (.invokevirtual 28, 3) := by decide +kernel
theorem dX4_aside_57 : decode cX4_aside 57 = .ok (.astore 5, 2) := by decide +kernel
theorem dX4_aside_59 : decode cX4_aside 59 = .ok (.goto (-50), 3) := by decide +kernel
theorem dX4_aside_62 : decode cX4_aside 62 = .ok (.aload 4, 2) := by decide +kernel
theorem dX4_aside_64 : decode cX4_aside 64 = .ok (.ifnonnull 7, 3) := by decide +kernel
theorem dX4_aside_67 : decode cX4_aside 67 = .ok (.aconst_null, 1) := by decide +kernel
theorem dX4_aside_68 : decode cX4_aside 68 = .ok (.goto 15, 3) := by decide +kernel
theorem dX4_aside_71 : decode cX4_aside 71 = .ok (.aload 4, 2) := by decide +kernel
theorem dX4_aside_73 : decode cX4_aside 73 = .ok (.iconst 1, 1) := by decide +kernel
theorem dX4_aside_74 : decode cX4_aside 74 = .ok (.iload_n 3, 1) := by decide +kernel
theorem dX4_aside_75 : decode cX4_aside 75 = .ok (.isub, 1) := by decide +kernel
theorem dX4_aside_76 : decode cX4_aside 76 = .ok (.invokevirtual 28, 3) := by decide +kernel
theorem dX4_aside_79 : decode cX4_aside 79 = .ok (.iload_n 3, 1) := by decide +kernel
theorem dX4_aside_80 : decode cX4_aside 80 = .ok (.invokevirtual 62, 3) := by decide +kernel
theorem dX4_aside_83 : decode cX4_aside 83 = .ok (.areturn, 1) := by decide +kernel
theorem dX4_get_0 : decode cX4_get 0 = .ok (.aload_n 0, 1) := by decide +kernel
theorem dX4_get_1 : decode cX4_get 1 = .ok (.getfield 7, 3) := by decide +kernel
theorem dX4_get_4 : decode cX4_get 4 = .ok (.ifnonnull 5, 3) := by decide +kernel
theorem dX4_get_7 : decode cX4_get 7 = .ok (.aconst_null, 1) := by decide +kernel
theorem dX4_get_8 : decode cX4_get 8 = .ok (.areturn, 1) := by decide +kernel
